/-! ===== the law of ranges ===== -/
set_option maxRecDepth 100000
set_option maxHeartbeats 400000
theorem l_cg {c x y : Int64} (h : x = y) : c + x = c + y := by rw [h]
section GG
variable {P : PT} {D : DT} {B : Nat}
theorem rbT_re (h : GI P D B) {R : List Nat} {s : Nat} (hs : s < 20) (hk : hK (P_kind P s)) (nw : Option Nat) : sm (rbT P R s nw) 12 = sb P (fun b => held P s (nI b) ∧ (∀ n, nw = some n → ¬ held P n (nI b)) ∧ ¬ hoP P R (nI b)) 96 := by
  have e1 : sm (rbT P R s nw) 12 = sm (fun k => sel (¬ P_slot P s k = -1 ∧ ((∀ n, nw = some n → ¬ held P n (nI (P_slot P s k).toNatClampNeg)) ∧ ¬ hoP P R (nI (P_slot P s k).toNatClampNeg))) (szs P (P_slot P s k).toNatClampNeg)) 12 := by
    refine sm_congr (fun k hk2 => ?_)
    unfold rbT
    rcases h.pi.s s k hs hk2 with z | ⟨b, hb, z⟩
    · rw [sel_f (fun y => y.1 z), sel_f (fun y => y.1 z)]
    · rw [z, nI_clamp (by omega)]
  rw [e1, sm_re (S := P_slot P s) (Q := fun b => (∀ n, nw = some n → ¬ held P n (nI b)) ∧ ¬ hoP P R (nI b)) (v := szs P) 12 (fun k hk2 => h.pi.s s k hs hk2) (h.inj hs hk)]
  rfl
theorem rbS_e (h : GI P D B) {q : Nat} {R : List Nat} : ∀ (L : List Nat) (y : Int32) (R' : List Nat) (nw : Option Nat) (c : Int64), CS P L → Ch P y L → upt q L = some R' → (∀ n, nw = some n → n < 20 ∧ sK (P_kind P n) ∧ P_prev P n = y) → rbS P R nw R' c = c + sb P (fun b => (∃ s, s ∈ R' ∧ held P s (nI b)) ∧ (∀ n, nw = some n → ¬ held P n (nI b)) ∧ ¬ hoP P R (nI b)) 96 := by
  intro L
  induction L with
  | nil => intro y R' nw c _ _ e; cases e
  | cons i L ih =>
    intro y R' nw c hcs hc e hnw
    obtain ⟨hi, hs⟩ := hcs i (List.mem_cons_self ..)
    by_cases c1 : i = q
    · subst c1
      rw [upt_ts e]
      show c + sm (rbT P R i nw) 12 = _
      rw [rbT_re h hi (Or.inr hs) nw]
      refine l_cg ?_
      refine sm_congr (fun b hb => sel_c ?_)
      constructor
      · rintro ⟨y1, y2⟩
        exact ⟨⟨i, List.mem_cons_self .., y1⟩, y2⟩
      · rintro ⟨⟨s, y1, y2⟩, y3⟩
        rw [List.mem_singleton.mp y1] at y2
        exact ⟨y2, y3⟩
    · obtain ⟨R2, e2, rfl⟩ := upt_fs c1 e
      have cs2 : CS P L := fun j hj => hcs j (List.mem_cons_of_mem _ hj)
      show rbS P R (some i) R2 (c + sm (rbT P R i nw) 12) = _
      rw [ih _ R2 (some i) _ cs2 hc.2.2 e2 (fun n z => by cases z; exact ⟨hi, hs, rfl⟩), rbT_re h hi (Or.inr hs) nw, Int64.add_assoc]
      refine l_cg ?_
      unfold sb
      rw [← sm_add]
      refine sm_congr (fun b hb => ?_)
      have key : (∃ s, s ∈ R2 ∧ held P s (nI b)) → ¬ held P i (nI b) → ∀ n, nw = some n → ¬ held P n (nI b) := by
        rintro ⟨s, s1, k2, hk2, s2⟩ hni n en ⟨k, hk3, n2⟩
        obtain ⟨hn, hns, hnp⟩ := hnw n en
        have sL : s ∈ L := upt_sub _ _ _ e2 s s1
        obtain ⟨hs20, hss⟩ := cs2 s sL
        have l1 := h.j10 s k2 b ⟨hs20, Or.inr hss, hk2, hb, s2⟩ hss
        have l2 := (List.pairwise_cons.mp (h.chp _ _ hcs hc)).1 s sL
        have l3 := h.j11 n i k b ⟨hn, Or.inr hns, hk3, hb, n2⟩ hi (hnp.trans hc.1) (by omega)
        exact hni ⟨k, hk3, l3⟩
      rw [← sel_or (fun y => ?_)]
      · refine sel_c ?_
        constructor
        · rintro (⟨y1, y2⟩ | ⟨y1, y2, y3⟩)
          · exact ⟨⟨i, List.mem_cons_self .., y1⟩, y2⟩
          · obtain ⟨s, s1, s2⟩ := y1
            exact ⟨⟨s, List.mem_cons_of_mem _ s1, s2⟩, key ⟨s, s1, s2⟩ (y2 i rfl), y3⟩
        · rintro ⟨⟨s, s1, s2⟩, y2, y3⟩
          by_cases ci : held P i (nI b)
          · exact Or.inl ⟨ci, y2, y3⟩
          · refine Or.inr ⟨?_, fun n z => by cases z; exact ci, y3⟩
            rcases List.mem_cons.mp s1 with z | z
            · rw [z] at s2
              exact absurd s2 ci
            · exact ⟨s, z, s2⟩
      · exact y.2.2.1 i rfl y.1.1
/-- downward along a chain a block is held as long as it is not younger -/
theorem GI.down (h : GI P D B) {b : Nat} (hb : b < 96) : ∀ (L : List Nat) (y : Int32) (i : Nat), CS P (i :: L) → Ch P y (i :: L) → held P i (nI b) → ∀ x, x ∈ L → brI P b ≤ mkI P x → held P x (nI b) := by
  intro L
  induction L with
  | nil => intro y i _ _ _ x hx; exact absurd hx List.not_mem_nil
  | cons j L ih =>
    intro y i hcs hc hh x hx hle
    obtain ⟨hi, hs⟩ := hcs i (List.mem_cons_self ..)
    have cs2 : CS P (j :: L) := fun a ha => hcs a (List.mem_cons_of_mem _ ha)
    obtain ⟨e, hj, hc2⟩ := hc.2.2
    obtain ⟨k, hk, e2⟩ := hh
    have hjh : brI P b ≤ mkI P j := by
      rcases List.mem_cons.mp hx with z | z
      · rw [← z]; exact hle
      · have := (List.pairwise_cons.mp (h.chp _ _ cs2 hc.2.2)).1 x z
        omega
    have e3 := h.j11 i j k b ⟨hi, Or.inr hs, hk, hb, e2⟩ hj e hjh
    rcases List.mem_cons.mp hx with z | z
    · rw [z]
      exact ⟨k, hk, e3⟩
    · exact ih _ j cs2 ⟨e, hj, hc2⟩ ⟨k, hk, e3⟩ x z hle
/-- the one ahead on a chain -/
theorem GI.pred (h : GI P D B) {L : List Nat} {y : Int32} {i s : Nat} (hcs : CS P (i :: L)) (hc : Ch P y (i :: L)) (hs : s ∈ L) : ∃ n, n ∈ i :: L ∧ P_prev P n = nI s := by
  have hnd := h.chd hcs hc
  obtain ⟨A, C, e⟩ := List.append_of_mem (List.mem_cons_of_mem i hs)
  have hc2 := hc
  rw [e] at hc2
  rcases Ch.ahead A _ s C hc2 with ⟨e1, -⟩ | ⟨A', n, e1, e2⟩
  · exfalso
    rw [e1] at e
    have ei : i = s := by
      have := e
      simp only [List.nil_append, List.cons.injEq] at this
      exact this.1
    rw [← ei] at hs
    exact (List.nodup_cons.mp hnd).1 hs
  · refine ⟨n, ?_, e2⟩
    rw [e, e1]
    simp
theorem upt_pre : ∀ (L : List Nat) (q : Nat) (R : List Nat), upt q L = some R → ∃ post, L = R ++ post := by
  intro L
  induction L with
  | nil => intro q R e; cases e
  | cons i L ih =>
    intro q R e
    by_cases c : i = q
    · subst c
      rw [upt_ts e]
      exact ⟨L, rfl⟩
    · obtain ⟨R2, e2, rfl⟩ := upt_fs c e
      obtain ⟨post, e3⟩ := ih q R2 e2
      exact ⟨post, by rw [e3]; rfl⟩
/-- of a run all lie over its end -/
theorem GI.over (h : GI P D B) : ∀ (L : List Nat) (y : Int32) (q : Nat) (R : List Nat), CS P L → Ch P y L → upt q L = some R → ∀ s, s ∈ R → mkI P q ≤ mkI P s := by
  intro L
  induction L with
  | nil => intro y q R _ _ e; cases e
  | cons i L ih =>
    intro y q R hcs hc e s hs
    have cs2 : CS P L := fun a ha => hcs a (List.mem_cons_of_mem _ ha)
    by_cases c : i = q
    · subst c
      rw [upt_ts e] at hs
      rw [List.mem_singleton.mp hs]
      omega
    · obtain ⟨R2, e2, rfl⟩ := upt_fs c e
      rcases List.mem_cons.mp hs with z | z
      · rw [z]
        have hq := upt_sub _ _ _ e2 q (upt_last _ _ _ e2)
        have := (List.pairwise_cons.mp (h.chp _ _ hcs hc)).1 q hq
        omega
      · exact ih _ q R2 cs2 hc.2.2 e2 s z
/-- a run's blocks, born behind what is ahead of it, have their root in it -/
theorem GI.rin (h : GI P D B) {b : Nat} (hb : b < 96) : ∀ (L : List Nat) (y : Int32) (q : Nat) (R : List Nat), CS P L → Ch P y L → upt q L = some R → pmI P q < brI P b → ∀ s, s ∈ R → held P s (nI b) → ∃ r k, r ∈ R ∧ hd P r k b ∧ pmI P r < brI P b := by
  intro L
  induction L with
  | nil => intro y q R _ _ e; cases e
  | cons i L ih =>
    intro y q R hcs hc e hq s hs hh
    have cs2 : CS P L := fun a ha => hcs a (List.mem_cons_of_mem _ ha)
    obtain ⟨hi, hsi⟩ := hcs i (List.mem_cons_self ..)
    by_cases c : i = q
    · subst c
      rw [upt_ts e] at hs ⊢
      rw [List.mem_singleton.mp hs] at hh
      obtain ⟨k, hk, e2⟩ := hh
      exact ⟨i, k, List.mem_cons_self .., ⟨hi, Or.inr hsi, hk, hb, e2⟩, hq⟩
    · obtain ⟨R2, e2, rfl⟩ := upt_fs c e
      have inner : ∀ x, x ∈ R2 → held P x (nI b) → ∃ r k, r ∈ i :: R2 ∧ hd P r k b ∧ pmI P r < brI P b := by
        intro x hx hxh
        obtain ⟨r, k, r1, r2, r3⟩ := ih _ q R2 cs2 hc.2.2 e2 hq x hx hxh
        exact ⟨r, k, List.mem_cons_of_mem _ r1, r2, r3⟩
      rcases List.mem_cons.mp hs with z | z
      · rw [z] at hh
        obtain ⟨k, hk, e3⟩ := hh
        have hhd : hd P i k b := ⟨hi, Or.inr hsi, hk, hb, e3⟩
        by_cases c2 : pmI P i < brI P b
        · exact ⟨i, k, List.mem_cons_self .., hhd, c2⟩
        · cases L with
          | nil => cases e2
          | cons j L =>
            obtain ⟨e4, hj, -⟩ := hc.2.2
            rw [pmI_n hj e4] at c2
            have e5 := h.j11 i j k b hhd hj e4 (by omega)
            refine inner j ?_ ⟨k, hk, e5⟩
            by_cases c3 : j = q
            · rw [c3]
              exact upt_last _ _ _ e2
            · obtain ⟨R3, e6, rfl⟩ := upt_fs c3 e2
              exact List.mem_cons_self ..
      · exact inner s z hh
theorem rlS_e (h : GI P D B) {q : Nat} {af : Int32} : ∀ (L : List Nat) (y : Int32) (R' : List Nat) (c : Int64), CS P L → Ch P y L → upt q L = some R' → (∀ s, s ∈ R' → nNx P (nI s) = 1) → rlS P D af R' c = c + sb P (fun b => (∃ s, s ∈ R' ∧ dd P (nxO P s) b) ∧ af < P_birth P b) 96 := by
  have mx : ∀ b, ¬ (2147483647 : Int32) < P_birth P b := by
    intro b
    rw [lt_i]
    have e : (2147483647 : Int32).toInt = 2147483647 := by decide
    have := Int32.toInt_lt (P_birth P b)
    rw [e]
    omega
  intro L
  induction L with
  | nil => intro y R' c _ _ e; cases e
  | cons i L ih =>
    intro y R' c hcs hc e h1
    obtain ⟨hi, hs⟩ := hcs i (List.mem_cons_self ..)
    have one : ∀ s, nNx P (nI s) = 1 → dbS P af 2147483647 (D (nxO P s)) 0 = sb P (fun b => dd P (nxO P s) b ∧ af < P_birth P b) 96 := by
      intro s hn
      obtain ⟨n1, n2, n3⟩ := nxO_lt hn
      rw [dbS_b h n1 n2]
      refine sm_congr (fun b _ => sel_c ?_)
      constructor
      · rintro ⟨y1, y2, -⟩
        exact ⟨y1, y2⟩
      · rintro ⟨y1, y2⟩
        exact ⟨y1, y2, mx b⟩
    by_cases c1 : i = q
    · subst c1
      have eR := upt_ts e
      subst eR
      show c + dbS P af 2147483647 (D (nxO P i)) 0 = _
      rw [one i (h1 i (List.mem_cons_self ..))]
      refine l_cg ?_
      refine sm_congr (fun b _ => sel_c ?_)
      constructor
      · rintro ⟨y1, y2⟩
        exact ⟨⟨i, List.mem_cons_self .., y1⟩, y2⟩
      · rintro ⟨⟨s, y1, y2⟩, y3⟩
        rw [List.mem_singleton.mp y1] at y2
        exact ⟨y2, y3⟩
    · obtain ⟨R2, e2, rfl⟩ := upt_fs c1 e
      have cs2 : CS P L := fun j hj => hcs j (List.mem_cons_of_mem _ hj)
      show rlS P D af R2 (c + dbS P af 2147483647 (D (nxO P i)) 0) = _
      rw [ih _ R2 _ cs2 hc.2.2 e2 (fun s hs' => h1 s (List.mem_cons_of_mem _ hs')), one i (h1 i (List.mem_cons_self ..)), Int64.add_assoc]
      refine l_cg ?_
      unfold sb
      rw [← sm_add]
      refine sm_congr (fun b hb => ?_)
      rw [← sel_or (fun y => ?_)]
      · refine sel_c ?_
        constructor
        · rintro (⟨y1, y2⟩ | ⟨⟨s, s1, s2⟩, y2⟩)
          · exact ⟨⟨i, List.mem_cons_self .., y1⟩, y2⟩
          · exact ⟨⟨s, List.mem_cons_of_mem _ s1, s2⟩, y2⟩
        · rintro ⟨⟨s, s1, s2⟩, y2⟩
          rcases List.mem_cons.mp s1 with z | z
          · rw [z] at s2
            exact Or.inl ⟨s2, y2⟩
          · exact Or.inr ⟨⟨s, z, s2⟩, y2⟩
      · -- two can't be
        obtain ⟨⟨y1, -⟩, ⟨s, s1, s2⟩, -⟩ := y
        have hn1 := h1 s (List.mem_cons_of_mem _ s1)
        have sL : s ∈ L := upt_sub _ _ _ e2 s s1
        obtain ⟨hs20, hss⟩ := cs2 s sL
        obtain ⟨n1, n2, n3⟩ := nxO_lt hn1
        obtain ⟨p, k, hp, ep, hk, ek, hnh⟩ := s2
        have : p = s := nIe (by omega) (by omega) (ep.symm.trans n3)
        rw [this] at ek
        have hle := h.j10 s k b ⟨hs20, Or.inr hss, hk, hb, ek⟩ hss
        obtain ⟨m1, m2, m3⟩ := nxO_lt (h1 i (List.mem_cons_self ..))
        obtain ⟨p', k', hp', ep', hk', ek', -⟩ := y1
        have : p' = i := nIe (by omega) (by omega) (ep'.symm.trans m3)
        rw [this] at ek'
        have hih : held P i (nI b) := ⟨k', hk', ek'⟩
        obtain ⟨n, hn, en⟩ := h.pred hcs hc sL
        obtain ⟨hn20, hns⟩ := hcs n hn
        have enx := nx_u hn1 hn20 (Or.inr hns) en
        have hl := h.j6 n s hn20 hns hs20 en
        refine hnh ?_
        rw [← enx]
        rcases List.mem_cons.mp hn with z | z
        · rw [z]; exact hih
        · exact h.down hb L y i hcs hc hih n z (by omega)
theorem law_rg (h : GI P D B) {q b0 : Nat} {L R : List Nat} (hcs : CS P L) (hc : Ch P (nI b0) L) (e : upt q L = some R) : rgS P D q R = sb P (aloP P (fun t => t ∈ R)) 96 := by
  have hRL := upt_sub _ _ _ e
  have hqR := upt_last _ _ _ e
  obtain ⟨hq20, hqs⟩ := hcs q (hRL q hqR)
  by_cases c : ∀ s, s ∈ R → nNx P (nI s) = 1
  · rw [rgS_t c, rlS_e h L _ R 0 hcs hc e c, l_0l]
    refine sm_congr (fun b hb => sel_c ?_)
    rw [alo_i h hb]
    have epq : (pm P q < P_birth P b) ↔ pmI P q < brI P b := lt_i
    dsimp only
    rw [epq]
    constructor
    · rintro ⟨⟨s, s1, s2⟩, hpm⟩
      have sL := hRL s s1
      obtain ⟨hs20, hss⟩ := hcs s sL
      obtain ⟨n1, n2, n3⟩ := nxO_lt (c s s1)
      obtain ⟨p, k, hp, ep, hk, ek, hnh⟩ := s2
      have eps : p = s := nIe (by omega) (by omega) (ep.symm.trans n3)
      rw [eps] at ek
      have hsd : hd P s k b := ⟨hs20, Or.inr hss, hk, hb, ek⟩
      have hle := h.j10 s k b hsd hss
      obtain ⟨r, kr, r1, r2, r3⟩ := h.rin hb L _ q R hcs hc e hpm s s1 ⟨k, hk, ek⟩
      refine ⟨⟨s, hs20, s1, Or.inr hss, k, hk, ek⟩, ?_⟩
      -- whoever holds it lies in the run
      have stepU : ∀ u, u < 20 → hK (P_kind P u) → held P u (nI b) → (∀ p, p < 20 → P_prev P u = nI p → held P p (nI b) → p ∈ R) → u ∈ R := by
        intro u hu hku hh hp'
        obtain ⟨ku, hku2, eu⟩ := hh
        have hud : hd P u ku b := ⟨hu, hku, hku2, hb, eu⟩
        by_cases cu : pmI P u < brI P b
        · rw [h.j12 u r ku kr b hud r2 cu r3]
          exact r1
        · have hb1 := (h.j9 b hb (h.j7 u ku b hud)).1
          rcases h.pi.p hu hku with z | ⟨p, hp, z, hps⟩
          · rw [pmI_m z] at cu
            omega
          · rw [pmI_n hp z] at cu
            have ep2 := h.j11 u p ku b hud hp z (by omega)
            have hpR := hp' p hp z ⟨ku, hku2, ep2⟩
            have eun := nx_u (c p hpR) hu hku z
            by_cases cps : p = s
            · exfalso
              rw [cps] at eun
              exact hnh (by rw [← eun]; exact ⟨ku, hku2, eu⟩)
            · obtain ⟨post, epost⟩ := upt_pre _ _ _ e
              cases R with
              | nil => exact absurd hpR List.not_mem_nil
              | cons i R2 =>
                have eL : L = i :: (R2 ++ post) := by rw [epost]; rfl
                have hcs' := hcs
                have hc' := hc
                rw [eL] at hcs' hc'
                rcases List.mem_cons.mp hpR with y | y
                · -- p is the head: s lies behind it
                  exfalso
                  have sR2 : s ∈ R2 ++ post := by
                    rcases List.mem_cons.mp s1 with w | w
                    · exact absurd (y.trans w.symm) cps
                    · exact List.mem_append_left _ w
                  obtain ⟨n, hn, en⟩ := h.pred hcs' hc' sR2
                  obtain ⟨hn20, hns⟩ := hcs' n hn
                  have enx := nx_u (c s s1) hn20 (Or.inr hns) en
                  have hl := h.j6 n s hn20 hns hs20 en
                  refine hnh ?_
                  rw [← enx]
                  rcases List.mem_cons.mp hn with w | w
                  · rw [w, ← y]
                    exact ⟨ku, hku2, ep2⟩
                  · refine h.down hb _ _ i hcs' hc' ?_ n w (by omega)
                    rw [← y]
                    exact ⟨ku, hku2, ep2⟩
                · obtain ⟨hp20, hps'⟩ := hcs p (hRL p hpR)
                  have hcsR : CS P (i :: R2) := fun j hj => hcs j (hRL j hj)
                  -- the one ahead of p in the run
                  have : ∃ n, n ∈ i :: R2 ∧ P_prev P n = nI p := by
                    obtain ⟨A, C, eA⟩ := List.append_of_mem (List.mem_cons_of_mem i y)
                    have hc2 := hc
                    rw [epost, eA, List.append_assoc] at hc2
                    rcases Ch.ahead A _ p (C ++ post) hc2 with ⟨e1, -⟩ | ⟨A', n, e1, e2⟩
                    · exfalso
                      rw [e1] at eA
                      have ei : i = p := by
                        have := eA
                        simp only [List.nil_append, List.cons.injEq] at this
                        exact this.1
                      have hnd := h.chd hcs' hc'
                      refine (List.nodup_cons.mp hnd).1 (List.mem_append_left _ ?_)
                      rw [ei]
                      exact y
                    · refine ⟨n, ?_, e2⟩
                      rw [eA, e1]
                      simp
                  obtain ⟨n, hn, en⟩ := this
                  obtain ⟨hn20, hns⟩ := hcsR n hn
                  have := nx_u (c p hpR) hn20 (Or.inr hns) en
                  rw [eun, ← this]
                  exact hn
      have snaps : ∀ (m : Nat) u, u < 20 → sK (P_kind P u) → mkI P u < m → held P u (nI b) → u ∈ R := by
        intro m
        induction m with
        | zero =>
          intro u hu hku hm hh
          have := (h.j5 u hu hku).1
          omega
        | succ m ih =>
          intro u hu hku hm hh
          refine stepU u hu (Or.inr hku) hh (fun p hp ep hph => ?_)
          have := h.j6 u p hu hku hp ep
          exact ih p hp (h.pv hu (Or.inr hku) hp ep) (by omega) hph
      intro u hu hku hh
      refine stepU u hu hku hh (fun p hp ep hph => ?_)
      have hps := h.pv hu hku hp ep
      exact snaps ((mkI P p).toNat + 1) p hp hps (by have := (h.j5 p hp hps).1; omega) hph
    · rintro ⟨⟨t, ht, tR, hkt, hh⟩, hall⟩
      have hpm : pmI P q < brI P b := by
        refine Classical.byContradiction (fun cq => ?_)
        obtain ⟨kt, hkt2, et⟩ := hh
        have htd : hd P t kt b := ⟨ht, hkt, hkt2, hb, et⟩
        have hb1 := (h.j9 b hb (h.j7 t kt b htd)).1
        rcases h.pi.p hq20 (Or.inr hqs) with z | ⟨p, hp, z, hps⟩
        · rw [pmI_m z] at cq
          omega
        · rw [pmI_n hp z] at cq
          have lpq := h.j6 q p hq20 hqs hp z
          have hqh : held P q (nI b) := by
            by_cases ctq : t = q
            · rw [← ctq]
              exact ⟨kt, hkt2, et⟩
            · obtain ⟨A, C, eA⟩ := List.append_of_mem (hRL t tR)
              have hc2 := hc
              have hcs2 := hcs
              have hqL := hRL q hqR
              rw [eA] at hc2 hcs2 hqL
              have hsf := Ch.sfx A _ t C hc2
              have hcst : CS P (t :: C) := fun j hj => hcs2 j (List.mem_append_right _ hj)
              have hpw := h.chp _ _ hcs2 hc2
              have hov := h.over L _ q R hcs hc e t tR
              rcases List.mem_append.mp hqL with w | w
              · exfalso
                have := (List.pairwise_append.mp hpw).2.2 q w t (List.mem_cons_self ..)
                omega
              · rcases List.mem_cons.mp w with w | w
                · exact absurd w.symm ctq
                · exact h.down hb C _ t hcst hsf ⟨kt, hkt2, et⟩ q w (by omega)
          obtain ⟨kq, hkq, eq⟩ := hqh
          have e3 := h.j11 q p kq b ⟨hq20, Or.inr hqs, hkq, hb, eq⟩ hp z (by omega)
          have := hall p hp (Or.inr hps) ⟨kq, hkq, e3⟩
          have := h.over L _ q R hcs hc e p this
          omega
      refine ⟨?_, hpm⟩
      have top : ∀ (m : Nat) s, s ∈ R → held P s (nI b) → tmI P - mkI P s ≤ (m : Int) → ∃ s, s ∈ R ∧ held P s (nI b) ∧ ¬ held P (nxO P s) (nI b) := by
        intro m
        induction m with
        | zero =>
          intro s hs hsh hm
          obtain ⟨hs20, hss⟩ := hcs s (hRL s hs)
          have := (h.j5 s hs20 hss).2
          omega
        | succ m ih =>
          intro s hs hsh hm
          obtain ⟨hs20, hss⟩ := hcs s (hRL s hs)
          obtain ⟨n1, n2, n3⟩ := nxO_lt (c s hs)
          by_cases cx : held P (nxO P s) (nI b)
          · have hR := hall _ n1 n2 cx
            obtain ⟨-, hxs⟩ := hcs _ (hRL _ hR)
            have := h.j6 _ s n1 hxs hs20 n3
            exact ih _ hR cx (by omega)
          · exact ⟨s, hs, hsh, cx⟩
      obtain ⟨s, s1, ⟨k, hk, ek⟩, s3⟩ := top (tmI P - mkI P t).toNat t tR hh (by omega)
      obtain ⟨hs20, hss⟩ := hcs s (hRL s s1)
      obtain ⟨n1, n2, n3⟩ := nxO_lt (c s s1)
      exact ⟨s, s1, s, k, hs20, n3, hk, ek, s3⟩
  · rw [rgS_f c, rbS_e h L _ R none 0 hcs hc e (fun n y => by cases y), l_0l]
    refine sm_congr (fun b hb => sel_c ?_)
    rw [alo_i h hb]
    unfold hoP
    constructor
    · rintro ⟨⟨s, s1, s2⟩, -, y3⟩
      obtain ⟨hs20, hss⟩ := hcs s (hRL s s1)
      exact ⟨⟨s, hs20, s1, Or.inr hss, s2⟩, fun t ht hkt hh => Classical.byContradiction (fun z => y3 ⟨t, ht, hkt, hh, z⟩)⟩
    · rintro ⟨⟨t, ht, tR, hkt, hh⟩, hall⟩
      refine ⟨⟨t, tR, hh⟩, fun n y => (by cases y), ?_⟩
      rintro ⟨t, ht, hkt, hh, z⟩
      exact z (hall t ht hkt hh)
theorem law_range (h : GI P D B) {i j : Int32} : r_rangeX P D (j.toNatClampNeg :: chl P j.toNatClampNeg) i j = r_range P (j.toNatClampNeg :: chl P j.toNatClampNeg) i j := by
  unfold r_rangeX r_range
  by_cases c : sK (kdI P i) ∧ sK (kdI P j)
  · rw [if_pos c, if_pos c]
    obtain ⟨u, hu, rfl, hku⟩ := hK_n (Or.inr c.2)
    rw [kdI_n hu] at c
    rw [nI_clamp (by omega)]
    cases e : upt i.toNatClampNeg (u :: chl P u) with
    | none => rfl
    | some R =>
      show rgS P D i.toNatClampNeg R = sb P (aloP P (fun t => t ∈ [] ++ R)) 96
      rw [List.nil_append]
      have hC := h.ch hu (Or.inr c.2)
      refine law_rg (b0 := u) (L := u :: chl P u) h (fun a ha => ?_) ⟨rfl, hu, hC⟩ e
      rcases List.mem_cons.mp ha with z | z
      · rw [z]
        exact ⟨hu, c.2⟩
      · exact h.pi.cs hu (Or.inr c.2) hC a z
  · rw [if_neg c, if_neg c]
theorem law_alone (h : GI P D B) {i : Int32} : r_aloX P D i = r_alone P i := by
  unfold r_aloX r_alone
  by_cases c : hK (kdI P i)
  · rw [if_pos c, if_pos c]
    obtain ⟨t, ht, rfl, hk⟩ := hK_n c
    rw [kdI_n ht, nI_clamp (by omega)]
    by_cases cf : fK (P_kind P t)
    · rw [if_pos cf]
      exact law_aloF h ht cf
    · rw [if_neg cf]
      have cs := hk.resolve_left cf
      have hC := h.ch ht hk
      rw [law_rg (b0 := t) (L := t :: chl P t) (R := [t]) h (fun a ha => by
        rcases List.mem_cons.mp ha with z | z
        · rw [z]; exact ⟨ht, cs⟩
        · exact h.pi.cs ht hk hC a z) ⟨rfl, ht, hC⟩ upt_t]
      have : (fun u => u ∈ [t]) = (fun u => u = t) := by
        funext u
        exact propext List.mem_singleton
      rw [this]
  · rw [if_neg c, if_neg c]
end GG
