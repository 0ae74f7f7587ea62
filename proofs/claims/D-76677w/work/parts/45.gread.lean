/-! ===== the law of questions: block, dead, dead lists, alone (files), common ===== -/
set_option maxRecDepth 100000
set_option maxHeartbeats 400000
/-! sums -/
theorem i64_ac (a b c : Int64) : (a + b) + c = (a + c) + b := by
  rw [Int64.add_assoc, Int64.add_comm b c, ← Int64.add_assoc]
theorem l_0l (x : Int64) : 0 + x = x := by
  rw [Int64.add_comm]
  exact l_0 x
theorem sm_0 {f : Nat → Int64} : ∀ n, (∀ i, i < n → f i = 0) → sm f n = 0 := by
  intro n
  induction n with
  | zero => intro _; rfl
  | succ n ih =>
    intro h
    show sm f n + f n = 0
    rw [ih (fun i hi => h i (by omega)), h n (by omega)]
    rfl
theorem sm_add {f g : Nat → Int64} : ∀ n, sm (fun i => f i + g i) n = sm f n + sm g n := by
  intro n
  induction n with
  | zero => rfl
  | succ n ih =>
    show sm (fun i => f i + g i) n + (f n + g n) = (sm f n + f n) + (sm g n + g n)
    rw [ih, Int64.add_assoc, Int64.add_assoc, ← Int64.add_assoc (sm g n), Int64.add_comm (sm g n) (f n), Int64.add_assoc (f n)]
theorem sm_pt {v : Int64} {b : Nat} : ∀ n, sm (fun i => sel (i = b) v) n = if b < n then v else 0 := by
  intro n
  induction n with
  | zero => rfl
  | succ n ih =>
    show sm (fun i => sel (i = b) v) n + sel (n = b) v = _
    rw [ih]
    by_cases c : n = b
    · rw [sel_t c, if_neg (by omega), if_pos (by omega), l_0l]
    · rw [sel_f c, l_0]
      by_cases c2 : b < n
      · rw [if_pos c2, if_pos (by omega)]
      · rw [if_neg c2, if_neg (by omega)]
theorem sel_c {p q : Prop} {x : Int64} (h : p ↔ q) : sel p x = sel q x := by
  by_cases c : p
  · rw [sel_t c, sel_t (h.mp c)]
  · rw [sel_f c, sel_f (fun y => c (h.mpr y))]
theorem sel_or {p q : Prop} {x : Int64} (h : ¬ (p ∧ q)) : sel (p ∨ q) x = sel p x + sel q x := by
  by_cases c : p
  · rw [sel_t c, sel_t (Or.inl c), sel_f (fun y => h ⟨c, y⟩), l_0]
  · by_cases d : q
    · rw [sel_f c, sel_t d, sel_t (Or.inr d), l_0l]
    · rw [sel_f c, sel_f d, sel_f (fun y => y.elim c d)]
      rfl
/-- one more of a sum -/
theorem sm_one {p : Nat → Prop} {v : Nat → Int64} {b : Nat} (hn : ¬ p b) {n : Nat} (hb : b < n) : sm (fun i => sel (p i ∨ i = b) (v i)) n = sm (fun i => sel (p i) (v i)) n + v b := by
  have e : sm (fun i => sel (p i ∨ i = b) (v i)) n = sm (fun i => sel (p i) (v i) + sel (i = b) (v b)) n := by
    refine sm_congr (fun i _ => ?_)
    rw [sel_or (fun y => hn (by rw [← y.2]; exact y.1))]
    congr 1
    by_cases c : i = b
    · rw [c]
    · rw [sel_f c, sel_f c]
  rw [e, sm_add, sm_pt, if_pos hb]
theorem sm_re {S : Nat → Int32} {Q : Nat → Prop} {v : Nat → Int64} : ∀ N, (∀ k, k < N → S k = -1 ∨ ∃ b : Nat, b < 96 ∧ S k = nI b) → (∀ k j b, k < N → j < N → b < 96 → S k = nI b → S j = nI b → k = j) → sm (fun k => sel (¬ S k = -1 ∧ Q (S k).toNatClampNeg) (v (S k).toNatClampNeg)) N = sm (fun b => sel ((∃ k, k < N ∧ S k = nI b) ∧ Q b) (v b)) 96 := by
  intro N
  induction N with
  | zero =>
    intro _ _
    refine (sm_0 96 (fun i _ => sel_f (fun y => ?_))).symm
    obtain ⟨⟨k, hk, -⟩, -⟩ := y
    omega
  | succ N ih =>
    intro h inj
    have ih1 := ih (fun k hk => h k (by omega)) (fun k j b hk hj => inj k j b (by omega) (by omega))
    show sm _ N + sel (¬ S N = -1 ∧ Q (S N).toNatClampNeg) (v (S N).toNatClampNeg) = _
    rw [ih1]
    rcases h N (by omega) with e | ⟨b0, hb, e⟩
    · rw [sel_f (fun y => y.1 e), l_0]
      refine sm_congr (fun i hi => sel_c ⟨fun y => ?_, fun y => ?_⟩)
      · obtain ⟨⟨k, hk, e2⟩, q⟩ := y
        exact ⟨⟨k, by omega, e2⟩, q⟩
      · obtain ⟨⟨k, hk, e2⟩, q⟩ := y
        refine ⟨⟨k, ?_, e2⟩, q⟩
        rcases Nat.lt_or_ge k N with z | z
        · exact z
        · have : k = N := by omega
          rw [this, e] at e2
          exact absurd e2.symm (m1_ne i (by omega))
    · have hsp : ∀ i, i < 96 → ((∃ k, k < N + 1 ∧ S k = nI i) ↔ ((∃ k, k < N ∧ S k = nI i) ∨ i = b0)) := by
        intro i hi
        constructor
        · rintro ⟨k, hk, e2⟩
          rcases Nat.lt_or_ge k N with z | z
          · exact Or.inl ⟨k, z, e2⟩
          · have : k = N := by omega
            rw [this, e] at e2
            exact Or.inr (nIe hb hi e2).symm
        · rintro (⟨k, hk, e2⟩ | z)
          · exact ⟨k, by omega, e2⟩
          · exact ⟨N, by omega, by rw [z]; exact e⟩
      have hno : ¬ ∃ k, k < N ∧ S k = nI b0 := by
        rintro ⟨k, hk, e2⟩
        have := inj k N b0 (by omega) (by omega) hb e2 e
        omega
      rw [e, nI_clamp (by omega)]
      by_cases q : Q b0
      · rw [sel_t ⟨m1_ne b0 (by omega), q⟩, ← sm_one (p := fun b => (∃ k, k < N ∧ S k = nI b) ∧ Q b) (v := v) (fun y => hno y.1) hb]
        refine sm_congr (fun i hi => sel_c ?_)
        rw [hsp i hi]
        constructor
        · rintro (⟨y, z⟩ | y)
          · exact ⟨Or.inl y, z⟩
          · exact ⟨Or.inr y, by rw [y]; exact q⟩
        · rintro ⟨y | y, z⟩
          · exact Or.inl ⟨y, z⟩
          · exact Or.inr y
      · rw [sel_f (fun y => q y.2), l_0]
        refine sm_congr (fun i hi => sel_c ?_)
        rw [hsp i hi]
        constructor
        · rintro ⟨y, z⟩
          exact ⟨Or.inl y, z⟩
        · rintro ⟨y | y, z⟩
          · exact ⟨y, z⟩
          · rw [y] at z
            exact absurd z q
/-- over a row without doubles -/
theorem sm_mem {Q : Nat → Prop} {v : Nat → Int64} : ∀ (L : List Nat), L.Nodup → (∀ b, b ∈ L → b < 96) → (L.map (fun b => sel (Q b) (v b))).foldl (· + ·) 0 = sm (fun b => sel (b ∈ L ∧ Q b) (v b)) 96 := by
  have fl : ∀ (L : List Int64) (c : Int64), L.foldl (· + ·) c = c + L.foldl (· + ·) 0 := by
    intro L
    induction L with
    | nil => intro c; exact (l_0 c).symm
    | cons a L ih =>
      intro c
      show L.foldl (· + ·) (c + a) = c + L.foldl (· + ·) (0 + a)
      rw [ih (c + a), ih (0 + a), l_0l, Int64.add_assoc]
  intro L
  induction L with
  | nil =>
    intro _ _
    exact (sm_0 96 (fun i _ => sel_f (fun y => absurd y.1 List.not_mem_nil))).symm
  | cons c L ih =>
    intro hn h
    obtain ⟨n1, n2⟩ := List.nodup_cons.mp hn
    have ih1 := ih n2 (fun b hb => h b (List.mem_cons_of_mem _ hb))
    show (L.map _).foldl (· + ·) (0 + sel (Q c) (v c)) = _
    rw [fl, ih1, l_0l]
    by_cases q : Q c
    · rw [sel_t q, Int64.add_comm, ← sm_one (p := fun b => b ∈ L ∧ Q b) (v := v) (fun y => n1 y.1) (h c (List.mem_cons_self ..))]
      refine sm_congr (fun i _ => sel_c ?_)
      rw [List.mem_cons]
      constructor
      · rintro (⟨y, z⟩ | y)
        · exact ⟨Or.inr y, z⟩
        · exact ⟨Or.inl y, by rw [y]; exact q⟩
      · rintro ⟨y | y, z⟩
        · exact Or.inr y
        · exact Or.inl ⟨y, z⟩
    · rw [sel_f q, l_0l]
      refine sm_congr (fun i _ => sel_c ?_)
      rw [List.mem_cons]
      constructor
      · rintro ⟨y, z⟩
        exact ⟨Or.inr y, z⟩
      · rintro ⟨y | y, z⟩
        · rw [y] at z
          exact absurd z q
        · exact ⟨y, z⟩
section GR
variable {P : PT} {D : DT} {B : Nat}
theorem cn_uq {p : Nat → Prop} {n : Nat} (h : ∀ k j, k < n → j < n → p k → p j → k = j) : cn p n = @ite Nat (∃ k, k < n ∧ p k) (Classical.propDecidable _) 1 0 := by
  by_cases c : ∃ k, k < n ∧ p k
  · rw [@if_pos _ (Classical.propDecidable _) c]
    obtain ⟨k, hk, hp⟩ := c
    rw [cn_congr (q := fun i => i = k) (fun i hi => ⟨fun y => h i k hi hk y hp, fun y => by rw [y]; exact hp⟩), cn_one hk]
  · rw [@if_neg _ (Classical.propDecidable _) c]
    exact cn_no (fun i hi y => c ⟨i, hi, y⟩)
theorem xH_h (h : GI P D B) {b : Nat} (hb : b < 96) : xHn P b = hCn P b := by
  have e : ∀ n, n ≤ 20 → cn (fun t => hK (P_kind P t) ∧ held P t (nI b)) n = cs (fun u => cn (hPd P b u) 12) n := by
    intro n
    induction n with
    | zero => intro _; rfl
    | succ n ih =>
      intro hn
      show _ = cs (fun u => cn (hPd P b u) 12) n + cn (hPd P b n) 12
      rw [cn_uq (p := hPd P b n) (fun k j hk hj y1 y2 => h.j8 n n k j b ⟨by omega, y1.1, hk, hb, y1.2⟩ ⟨by omega, y2.1, hj, hb, y2.2⟩), ← ih (by omega)]
      by_cases c : hK (P_kind P n) ∧ held P n (nI b)
      · rw [cn_t (p := fun t => hK (P_kind P t) ∧ held P t (nI b)) c]
        obtain ⟨c1, k, hk, e⟩ := c
        rw [@if_pos _ (Classical.propDecidable _) ⟨k, hk, c1, e⟩]
      · rw [cn_f (p := fun t => hK (P_kind P t) ∧ held P t (nI b)) c, @if_neg _ (Classical.propDecidable _) (fun y => c (by obtain ⟨k, hk, y1, y2⟩ := y; exact ⟨y1, k, hk, y2⟩))]
        rfl
  exact e 20 (Nat.le_refl _)
/-! dead -/
theorem dead_dd (h : GI P D B) {t b : Nat} (ht : t < 20) (hk : hK (P_kind P t)) : deadP P t b ↔ dd P t b := by
  unfold deadP dd
  constructor
  · rintro ⟨h1, ⟨h2, k, hk2, e⟩, h3⟩
    rcases h.pi.p ht hk with z | ⟨p, hp, z, hs⟩
    · exact absurd z h1
    · rw [pn_n hp z] at e
      exact ⟨p, k, hp, z, hk2, e, fun y => h3 ⟨hk, y⟩⟩
  · rintro ⟨p, k, hp, z, hk2, e, h3⟩
    rw [pn_n hp z]
    exact ⟨by rw [z]; exact m1_ne p (by omega), ⟨Or.inr (h.pv ht hk hp z), k, hk2, e⟩, fun y => h3 y.2⟩
theorem dlt_sp {p : Nat → Prop} : ∀ n, (∀ m, dlt P p n = some m → m < n ∧ p m ∧ ∀ c, c < n → p c → c = m ∨ lat P m c) ∧ (dlt P p n = none → ∀ c, c < n → ¬ p c) := by
  intro n
  induction n with
  | zero => exact ⟨fun m e => (by cases e), fun _ c hc => absurd hc (Nat.not_lt_zero _)⟩
  | succ n ih =>
    obtain ⟨i1, i2⟩ := ih
    by_cases c : p n
    · rw [dlt_t c]
      cases e : dlt P p n with
      | none =>
        refine ⟨fun m em => ?_, fun y => (by cases y)⟩
        cases em
        refine ⟨by omega, c, fun d hd' hp => ?_⟩
        rcases Nat.lt_or_ge d n with y | y
        · exact absurd hp (i2 e d y)
        · exact Or.inl (by omega)
      | some j =>
        obtain ⟨j1, j2, j3⟩ := i1 j e
        show (∀ m, (if P_birth P j < P_birth P n then some n else some j) = some m → _) ∧ ((if P_birth P j < P_birth P n then some n else some j) = none → _)
        by_cases q : P_birth P j < P_birth P n
        · rw [if_pos q]
          refine ⟨fun m em => ?_, fun y => (by cases y)⟩
          cases em
          have ln : lat P n j := Or.inl q
          refine ⟨by omega, c, fun d hd' hp => ?_⟩
          rcases Nat.lt_or_ge d n with y | y
          · rcases j3 d y hp with z | z
            · rw [z]; exact Or.inr ln
            · exact Or.inr (lat_tr ln z)
          · exact Or.inl (by omega)
        · rw [if_neg q]
          refine ⟨fun m em => ?_, fun y => (by cases y)⟩
          cases em
          refine ⟨by omega, j2, fun d hd' hp => ?_⟩
          rcases Nat.lt_or_ge d n with y | y
          · exact j3 d y hp
          · have : d = n := by omega
            rw [this]
            refine Or.inr (lat_i.mpr ?_)
            rw [lt_i] at q
            have : ¬ brI P j < brI P n := q
            omega
    · rw [dlt_f c]
      refine ⟨fun m em => ?_, fun e d hd' hp => ?_⟩
      · obtain ⟨j1, j2, j3⟩ := i1 m em
        refine ⟨by omega, j2, fun d hd' hp => ?_⟩
        rcases Nat.lt_or_ge d n with y | y
        · exact j3 d y hp
        · have : d = n := by omega
          rw [this] at hp
          exact absurd hp c
      · rcases Nat.lt_or_ge d n with y | y
        · exact i2 e d y hp
        · have : d = n := by omega
          rw [this] at hp
          exact absurd hp c
theorem det_sp {p : Nat → Prop} : ∀ n, (∀ m, det P p n = some m → m < n ∧ p m ∧ ∀ c, c < n → p c → c = m ∨ lat P c m) ∧ (det P p n = none → ∀ c, c < n → ¬ p c) := by
  intro n
  induction n with
  | zero => exact ⟨fun m e => (by cases e), fun _ c hc => absurd hc (Nat.not_lt_zero _)⟩
  | succ n ih =>
    obtain ⟨i1, i2⟩ := ih
    by_cases c : p n
    · rw [det_t c]
      cases e : det P p n with
      | none =>
        refine ⟨fun m em => ?_, fun y => (by cases y)⟩
        cases em
        refine ⟨by omega, c, fun d hd' hp => ?_⟩
        rcases Nat.lt_or_ge d n with y | y
        · exact absurd hp (i2 e d y)
        · exact Or.inl (by omega)
      | some j =>
        obtain ⟨j1, j2, j3⟩ := i1 j e
        show (∀ m, (if P_birth P j < P_birth P n then some j else some n) = some m → _) ∧ ((if P_birth P j < P_birth P n then some j else some n) = none → _)
        by_cases q : P_birth P j < P_birth P n
        · rw [if_pos q]
          refine ⟨fun m em => ?_, fun y => (by cases y)⟩
          cases em
          refine ⟨by omega, j2, fun d hd' hp => ?_⟩
          rcases Nat.lt_or_ge d n with y | y
          · exact j3 d y hp
          · have : d = n := by omega
            rw [this]
            exact Or.inr (Or.inl q)
        · rw [if_neg q]
          refine ⟨fun m em => ?_, fun y => (by cases y)⟩
          cases em
          have ln : lat P j n := by
            refine lat_i.mpr ?_
            rw [lt_i] at q
            have : ¬ brI P j < brI P n := q
            omega
          refine ⟨by omega, c, fun d hd' hp => ?_⟩
          rcases Nat.lt_or_ge d n with y | y
          · rcases j3 d y hp with z | z
            · rw [z]; exact Or.inr ln
            · exact Or.inr (lat_tr z ln)
          · exact Or.inl (by omega)
    · rw [det_f c]
      refine ⟨fun m em => ?_, fun e d hd' hp => ?_⟩
      · obtain ⟨j1, j2, j3⟩ := i1 m em
        refine ⟨by omega, j2, fun d hd' hp => ?_⟩
        rcases Nat.lt_or_ge d n with y | y
        · exact j3 d y hp
        · have : d = n := by omega
          rw [this] at hp
          exact absurd hp c
      · rcases Nat.lt_or_ge d n with y | y
        · exact i2 e d y hp
        · have : d = n := by omega
          rw [this] at hp
          exact absurd hp c
theorem gD_get {L : List Nat} {k : Nat} (hk : k < L.length) : L[k] = gD L k := by
  unfold gD
  rw [List.getD_eq_getElem?_getD, List.getElem?_eq_getElem hk]
  rfl
theorem law_dead (h : GI P D B) {i v : Int32} : r_deadX P D i v = r_dead P i v := by
  unfold r_deadX r_dead
  by_cases c : inI v 0 2
  · rw [if_pos c, if_pos c]
    by_cases c2 : askS P i = 0
    · rw [if_pos c2, if_pos c2]
      obtain ⟨t, ht, rfl, hk⟩ := askS_0.mp c2
      rw [nI_clamp (by omega)]
      obtain ⟨d1, d2⟩ := h.dk t ht hk
      have dp : ∀ b, b < 96 → (deadP P t b ↔ b ∈ D t) := by
        intro b hb
        rw [d2 b, dead_dd h ht hk]
        exact ⟨fun y => ⟨hb, y⟩, fun y => y.2⟩
      have en : cn (deadP P t) 96 = (D t).length := by
        rw [cn_congr dp]
        exact cn_mem _ (pw_nd d1) (fun b hb => ((d2 b).mp hb).1)
      have ord : ∀ b, b ∈ D t → ∃ j, ∃ hj : j < (D t).length, b = gD (D t) j := by
        intro b hb
        obtain ⟨j, hj, e⟩ := List.mem_iff_getElem.mp hb
        exact ⟨j, hj, by rw [← e]; exact gD_get hj⟩
      have lt : ∀ j k, j < k → (hk : k < (D t).length) → lat P (gD (D t) j) (gD (D t) k) := by
        intro j k hjk hk2
        have := List.pairwise_iff_getElem.mp d1 j k (by omega) hk2 hjk
        rw [gD_get, gD_get] at this
        exact this
      unfold dO dead_r
      rw [en]
      by_cases v0 : v = 0
      · rw [if_pos v0, if_pos v0]
      · rw [if_neg v0, if_neg v0]
        by_cases l0 : (D t).length = 0
        · rw [if_pos l0]
          have hn : ∀ b, b < 96 → ¬ deadP P t b := by
            intro b hb y
            have := (dp b hb).mp y
            rw [List.length_eq_zero_iff.mp l0] at this
            exact absurd this List.not_mem_nil
          have e1 : dlt P (deadP P t) 96 = none := by
            cases e : dlt P (deadP P t) 96 with
            | none => rfl
            | some m =>
              obtain ⟨m1, m2, -⟩ := (dlt_sp 96).1 m e
              exact absurd m2 (hn m m1)
          have e2 : det P (deadP P t) 96 = none := by
            cases e : det P (deadP P t) 96 with
            | none => rfl
            | some m =>
              obtain ⟨m1, m2, -⟩ := (det_sp 96).1 m e
              exact absurd m2 (hn m m1)
          rw [e1, e2]
          by_cases v1 : v = 1
          · rw [if_pos v1]; rfl
          · rw [if_neg v1]; rfl
        · rw [if_neg l0]
          have hp0 : 0 < (D t).length := by omega
          by_cases v1 : v = 1
          · rw [if_pos v1, if_pos v1]
            have hm : gD (D t) 0 ∈ D t := gX_mem hp0
            have hm96 := ((d2 _).mp hm).1
            cases e : dlt P (deadP P t) 96 with
            | none => exact absurd ((dp _ hm96).mpr hm) ((dlt_sp 96).2 e _ hm96)
            | some m =>
              obtain ⟨m1, m2, m3⟩ := (dlt_sp 96).1 m e
              show nI (gD (D t) 0) = nI m
              rcases m3 _ hm96 ((dp _ hm96).mpr hm) with z | z
              · rw [z]
              · obtain ⟨j, hj, ej⟩ := ord m ((dp m m1).mp m2)
                by_cases j0 : j = 0
                · rw [ej, j0]
                · have := lt 0 j (by omega) hj
                  rw [← ej] at this
                  exact absurd this (lat_as z)
          · rw [if_neg v1, if_neg v1]
            have hl : (D t).length - 1 < (D t).length := by omega
            have hm : gD (D t) ((D t).length - 1) ∈ D t := gX_mem hl
            have hm96 := ((d2 _).mp hm).1
            cases e : det P (deadP P t) 96 with
            | none => exact absurd ((dp _ hm96).mpr hm) ((det_sp 96).2 e _ hm96)
            | some m =>
              obtain ⟨m1, m2, m3⟩ := (det_sp 96).1 m e
              show nI (gD (D t) ((D t).length - 1)) = nI m
              rcases m3 _ hm96 ((dp _ hm96).mpr hm) with z | z
              · rw [z]
              · obtain ⟨j, hj, ej⟩ := ord m ((dp m m1).mp m2)
                by_cases j0 : j = (D t).length - 1
                · rw [ej, j0]
                · have := lt j ((D t).length - 1) (by omega) hl
                  rw [← ej] at this
                  exact absurd this (lat_as z)
    · rw [if_neg c2, if_neg c2]
  · rw [if_neg c, if_neg c]
/-! dead lists -/
theorem dbS_e {af ti : Int32} : ∀ (L : List Nat) (c : Int64), L.Pairwise (lat P) → dbS P af ti L c = c + (L.map (fun b => sel (af < P_birth P b ∧ ¬ ti < P_birth P b) (szs P b))).foldl (· + ·) 0 := by
  have fl : ∀ (L : List Int64) (c : Int64), L.foldl (· + ·) c = c + L.foldl (· + ·) 0 := by
    intro L
    induction L with
    | nil => intro c; exact (l_0 c).symm
    | cons a L ih =>
      intro c
      show L.foldl (· + ·) (c + a) = c + L.foldl (· + ·) (0 + a)
      rw [ih (c + a), ih (0 + a), l_0l, Int64.add_assoc]
  have z0 : ∀ (L : List Nat), (∀ b, b ∈ L → ¬ af < P_birth P b) → (L.map (fun b => sel (af < P_birth P b ∧ ¬ ti < P_birth P b) (szs P b))).foldl (· + ·) 0 = 0 := by
    intro L
    induction L with
    | nil => intro _; rfl
    | cons a L ih =>
      intro h
      show (L.map _).foldl (· + ·) (0 + sel _ _) = 0
      rw [fl, ih (fun b hb => h b (List.mem_cons_of_mem _ hb)), sel_f (fun y => h a (List.mem_cons_self ..) y.1)]
      rfl
  intro L
  induction L with
  | nil => intro c _; exact (l_0 c).symm
  | cons a L ih =>
    intro c hp
    obtain ⟨p1, p2⟩ := List.pairwise_cons.mp hp
    show (if af < P_birth P a then (if ti < P_birth P a then dbS P af ti L (c + 0) else dbS P af ti L (c + (P_size P a).toInt64)) else c) = c + (L.map _).foldl (· + ·) (0 + sel _ _)
    rw [fl]
    by_cases q : af < P_birth P a
    · rw [if_pos q]
      by_cases q2 : ti < P_birth P a
      · rw [if_pos q2, ih _ p2, sel_f (fun y => y.2 q2), l_0, l_0, l_0l]
      · rw [if_neg q2, ih _ p2, sel_t ⟨q, q2⟩, l_0l, Int64.add_assoc]
        rfl
    · rw [if_neg q, sel_f (fun y => q y.1), z0 L (fun b hb y => ?_)]
      · rw [l_0, l_0, l_0]
      · have := lat_i.mp (p1 b hb)
        rw [lt_i] at q y
        have q' : ¬ af.toInt < brI P a := q
        have y' : af.toInt < brI P b := y
        omega
/-- sizes of what died behind t, born in a span -/
theorem dbS_b (h : GI P D B) {t : Nat} (ht : t < 20) (hk : hK (P_kind P t)) {af ti : Int32} : dbS P af ti (D t) 0 = sb P (fun b => dd P t b ∧ af < P_birth P b ∧ ¬ ti < P_birth P b) 96 := by
  obtain ⟨d1, d2⟩ := h.dk t ht hk
  rw [dbS_e _ _ d1, l_0l, sm_mem (Q := fun b => af < P_birth P b ∧ ¬ ti < P_birth P b) _ (pw_nd d1) (fun b hb => ((d2 b).mp hb).1)]
  unfold sb
  refine sm_congr (fun b hb => sel_c ?_)
  rw [d2 b]
  constructor
  · rintro ⟨⟨-, y⟩, z⟩
    exact ⟨y, z⟩
  · rintro ⟨y, z⟩
    exact ⟨⟨hb, y⟩, z⟩
theorem Ch.at : ∀ (L : List Nat) (y : Int32) (k i : Nat), Ch P y L → L[k]? = some i → (P_prev P i = -1 ∧ L[k + 1]? = none) ∨ ∃ j, j < 20 ∧ P_prev P i = nI j ∧ L[k + 1]? = some j := by
  intro L
  induction L with
  | nil => intro y k i _ e; cases e
  | cons a L ih =>
    intro y k i hc e
    cases k with
    | zero =>
      cases e
      cases L with
      | nil => exact Or.inl ⟨hc.2.2, rfl⟩
      | cons j L => exact Or.inr ⟨j, hc.2.2.2.1, hc.2.2.1, rfl⟩
    | succ k => exact ih _ k i hc.2.2 e
theorem chn_len (P : PT) : ∀ n y, (chn P n y).length ≤ n := by
  intro n
  induction n with
  | zero => intro y; exact Nat.le_refl _
  | succ n ih =>
    intro y
    show (if y = -1 then [] else y.toNatClampNeg :: chn P n (P_prev P y.toNatClampNeg)).length ≤ n + 1
    by_cases c : y = -1
    · rw [if_pos c]
      exact Nat.zero_le _
    · rw [if_neg c]
      have := ih (P_prev P y.toNatClampNeg)
      simp
      omega
theorem law_deadList (h : GI P D B) {i k : Int32} : r_deadListX P D (chl P i.toNatClampNeg) i k = r_deadList P (chl P i.toNatClampNeg) i k := by
  unfold r_deadListX r_deadList
  by_cases c : hK (kdI P i)
  · obtain ⟨t, ht, rfl, hk⟩ := hK_n c
    rw [nI_clamp (by omega)]
    have hC := h.ch ht hk
    have hcs := h.pi.cs ht hk hC
    by_cases c2 : k < 0
    · rw [if_neg (fun y => y.2 c2), if_neg (fun y => y.2.1 c2)]
    · rw [if_pos ⟨c, c2⟩]
      obtain ⟨K, hK', rfl⟩ := nI_of c2
      rw [nI_clamp hK']
      by_cases c3 : K ≤ 19
      · rw [if_pos ⟨c, c2, nI_nlt c3 (by decide)⟩]
        cases e : (chl P t)[K]? with
        | none => rfl
        | some s =>
          show dbS P (pm P s) (P_made P s) (D t) 0 = sb P (dlP P t s ((chl P t)[K + 1]?)) 96
          rw [dbS_b h ht hk]
          refine sm_congr (fun b hb => sel_c ?_)
          unfold dlP
          rw [dead_dd h ht hk]
          have hs := hcs s (List.mem_of_getElem? e)
          refine and_congr_right (fun hdd => ?_)
          have hb1 : 1 ≤ brI P b := by
            obtain ⟨p, j, hp, e1, hj, e2, -⟩ := hdd
            have hhd : hd P p j b := ⟨hp, Or.inr (h.pv ht hk hp e1), hj, hb, e2⟩
            exact (h.j9 b hb (h.j7 p j b hhd)).1
          rcases Ch.at _ _ K s hC e with ⟨e1, e2⟩ | ⟨j, hj, e1, e2⟩
          · rw [e2, pm_m e1]
            constructor
            · rintro ⟨-, y⟩
              exact ⟨y, trivial⟩
            · rintro ⟨y, -⟩
              refine ⟨?_, y⟩
              rw [lt_i, i0_t]
              have : 1 ≤ (P_birth P b).toInt := hb1
              omega
          · rw [e2, pm_n hj e1]
            constructor
            · rintro ⟨y, z⟩
              exact ⟨z, Int32.not_le.mpr y⟩
            · rintro ⟨z, y⟩
              exact ⟨Int32.not_le.mp y, z⟩
      · have hn : (chl P t)[K]? = none := by
          refine List.getElem?_eq_none ?_
          have := chn_len P 20 (P_prev P t)
          unfold chl
          omega
        rw [hn]
        rw [if_neg (fun y => y.2.2 (nI_lt (a := 19) (by omega) hK'))]
        rfl
  · rw [if_neg (fun y => c y.1), if_neg (fun y => c y.1)]
/-! what is held alone -/
theorem cn_sub {p q : Nat → Prop} : ∀ n, (∀ i, i < n → p i → q i) → (cn p n = cn q n ↔ ∀ i, i < n → q i → p i) := by
  intro n h
  constructor
  · intro e i hi hq
    refine Classical.byContradiction (fun hp => ?_)
    have := cn_lt hq hp n hi h
    omega
  · intro k
    exact cn_congr (fun i hi => ⟨h i hi, k i hi⟩)
theorem alo_i (h : GI P D B) {p : Nat → Prop} {b : Nat} (hb : b < 96) : aloP P p b ↔ (∃ t, t < 20 ∧ p t ∧ hK (P_kind P t) ∧ held P t (nI b)) ∧ ∀ t, t < 20 → hK (P_kind P t) → held P t (nI b) → p t := by
  unfold aloP
  rw [← xH_h h hb]
  unfold nA xHn
  rw [cn_sub 20 (fun i _ y => y.2)]
  constructor
  · rintro ⟨y1, y2⟩
    refine ⟨Classical.byContradiction (fun c => ?_), fun t ht hk hh => (y2 t ht ⟨hk, hh⟩).1⟩
    rw [cn_no (fun i hi z => c ⟨i, hi, z⟩)] at y1
    omega
  · rintro ⟨⟨t, ht, y⟩, y2⟩
    refine ⟨?_, fun i hi z => ⟨y2 i hi z.1 z.2, z⟩⟩
    have := cn_lt (p := fun _ => False) (q := fun t => p t ∧ hK (P_kind P t) ∧ held P t (nI b)) (j := t) y (fun z => z) 20 ht (fun i _ z => z.elim)
    omega
theorem law_aloF (h : GI P D B) {t : Nat} (ht : t < 20) (hk : fK (P_kind P t)) : sS P t (laP P t) 12 = sb P (aloP P (fun u => u = t)) 96 := by
  have hh : hK (P_kind P t) := Or.inl hk
  unfold sS
  rw [sm_re (S := P_slot P t) (Q := laP P t) (v := szs P) 12 (fun k hk2 => h.pi.s t k ht hk2) (h.inj ht hh)]
  refine sm_congr (fun b hb => sel_c ?_)
  rw [alo_i h hb]
  unfold laP
  rw [nle]
  constructor
  · rintro ⟨⟨k, hk2, e⟩, y⟩
    have hhd : hd P t k b := ⟨ht, hh, hk2, hb, e⟩
    refine ⟨⟨t, ht, rfl, hh, k, hk2, e⟩, fun u hu hku x => ?_⟩
    obtain ⟨j, hj, e2⟩ := x
    exact h.sole hhd hk y ⟨hu, hku, hj, hb, e2⟩
  · rintro ⟨⟨u, hu, rfl, -, k, hk2, e⟩, y⟩
    refine ⟨⟨k, hk2, e⟩, ?_⟩
    have hhd : hd P u k b := ⟨ht, hh, hk2, hb, e⟩
    have hb1 := (h.j9 b hb (h.j7 u k b hhd)).1
    refine Classical.byContradiction (fun c => ?_)
    have c' : ¬ pmI P u < brI P b := c
    rcases h.pi.p ht hh with z | ⟨p, hp, z, hs⟩
    · rw [pmI_m z] at c'
      omega
    · rw [pmI_n hp z] at c'
      have e3 := h.j11 u p k b hhd hp z (by omega)
      have := y p hp (Or.inr hs) ⟨k, hk2, e3⟩
      rw [this] at hs
      exact f_ns hk hs
theorem law_common (h : GI P D B) {i j : Int32} : r_commonX P i j = r_common P i j := by
  unfold r_commonX r_common
  by_cases c : hK (kdI P i) ∧ hK (kdI P j)
  · rw [if_pos c, if_pos c]
    obtain ⟨t, ht, rfl, hk⟩ := hK_n c.1
    obtain ⟨u, hu, rfl, hku⟩ := hK_n c.2
    rw [nI_clamp (by omega), nI_clamp (by omega)]
    unfold sS
    rw [sm_re (S := P_slot P t) (Q := cmX P u) (v := szs P) 12 (fun k hk2 => h.pi.s t k ht hk2) (h.inj ht hk)]
    refine sm_congr (fun b hb => sel_c ?_)
    unfold coP cmX
    constructor
    · rintro ⟨⟨k, hk2, e⟩, y⟩
      exact ⟨pos_i.mpr (h.j7 t k b ⟨ht, hk, hk2, hb, e⟩), ⟨k, hk2, e⟩, y⟩
    · rintro ⟨-, ⟨k, hk2, e⟩, y⟩
      exact ⟨⟨k, hk2, e⟩, y⟩
  · rw [if_neg c, if_neg c]
end GR
