/-! ===== the reference: alone, range, most, fewest, expire ===== -/
set_option maxRecDepth 100000
noncomputable def nA (P : PT) (p : Nat → Prop) (b : Nat) : Nat := cn (fun t => p t ∧ hK (P_kind P t) ∧ held P t (nI b)) 20
/-- all that hold a block are among some, and there is one -/
def aloP (P : PT) (p : Nat → Prop) (b : Nat) : Prop := 0 < nA P p b ∧ nA P p b = hCn P b
/-- a chain up to one thing -/
def upt (a : Nat) : List Nat → Option (List Nat)
  | [] => none
  | i :: l => if i = a then some [i] else (upt a l).map (fun r => i :: r)
noncomputable def rngO (P : PT) (o : Option (List Nat)) (q : List Nat) : Int64 := match o with
  | none => NOL
  | some r => sb P (aloP P (fun t => t ∈ q ++ r)) 96
theorem nI_m (k : Nat) : nI (k + 1) - 1 = nI k := by
  have := nI_1 k
  rw [← this]
  simp
theorem nI_mm (k : Nat) : nI (k + 1) + (-1) = nI k := by
  have := nI_1 k
  rw [← this, Int32.add_assoc]
  have e : (1 : Int32) + (-1) = 0 := by decide
  rw [e, i_0]
section MU
variable {g : GT} {w : aW} {P : PT} {m0 m : MT} {QR : Option aV → aW → Prop} {QX : String → aW → Prop} {rc rs : Nat}
theorem lp_aloneIn2 (hV : V (G_M_ g m) w) (hM : MR m0 P m) (hz : ∀ b, b < 96 → M_holds m b = nI (hCn P b)) {set : Int32} {p : Nat → Prop} (hs : ∀ k, k < 32 → (tb set k = true ↔ p k)) {b : Nat} (hb : b < 96) (h : wp KX3_aloneIn rc rs QR QX 9 [(0, vR (some (g_m g))), (1, vI set), (2, vL (sb P (aloP P p) (b + 1))), (4, vI (nI (b + 1)))] [] w) : ∀ n t, t + n = 20 → wp KX3_aloneIn rc rs QR QX 22 [(0, vR (some (g_m g))), (1, vI set), (2, vL (sb P (aloP P p) b)), (4, vI (nI b)), (5, vI (nI (cn (fun t => p t ∧ hK (P_kind P t) ∧ held P t (nI b)) t))), (6, vI (nI t))] [] w := by
  intro n
  induction n with
  | zero =>
    intro t hk
    have : t = 20 := by omega
    subst this
    have hl : nA P p b ≤ 20 := cn_le _ _
    have hh := hCn_le P b
    refine sg_X3_aloneIn_22 (lpc (N := 20) rfl (by decide) hk (fun _ => ⟨fun c => ?_, fun c => ⟨_, hV.mf_holds, _, hV.mg_holds (vp_in_nI hb (by decide)), fun c2 => ?_, fun c2 => ⟨_, hV.mf_s, _, g_size hV hM.e hb, ?_⟩⟩⟩) (fun m e => by omega))
    · rw [sb_f] at h
      · rw [nI_1, l_0]
        exact h
      · intro z
        have := (nI_leI (b := 0) (by show nA P p b < _; omega) (by decide)).mp c
        have z1 := z.1
        unfold nA at z1
        omega
    · have c3 : ¬ nI (nA P p b) = M_holds m b := by
        rw [nI_clamp (by omega)] at c2
        exact c2
      rw [sb_f (fun z => c3 (by rw [hz b hb, z.2]))] at h
      rw [nI_1, l_0]
      exact h
    · have c3 : nI (nA P p b) = M_holds m b := by
        rw [nI_clamp (by omega)] at c2
        exact c2
      rw [hz b hb] at c3
      have c4 := (nI_eq (by omega) (by omega)).mp c3
      have c5 : 0 < nA P p b := by
        rcases Nat.eq_zero_or_pos (nA P p b) with z | z
        · exfalso
          apply c
          show nI (nA P p b) ≤ 0
          rw [z]
          decide
        · exact z
      rw [sb_t ⟨c5, c4⟩] at h
      rw [nI_1]
      exact h
  | succ n ih =>
    intro t hk
    have ih1 := ih (t + 1) (by omega)
    refine sg_X3_aloneIn_22 (lpc (N := 20) rfl (by decide) hk (fun e => by omega) (fun m e hk2 => ?_))
    rw [bit_e (by omega)]
    by_cases c : tb set t = true
    · rw [if_pos c]
      refine ⟨fun z => absurd rfl z, fun _ => ⟨hV.mO, c_X3_isHeld hV hM.e hk2 ⟨_, rfl, fun c2 => ?_, fun c2 => ?_⟩⟩⟩
      · rw [cn_f (p := fun t => p t ∧ hK (P_kind P t) ∧ held P t (nI b)) (fun z => bI_0.mp c2 z.2)] at ih1
        rw [nI_1, i_0]
        exact ih1
      · rw [cn_t (p := fun t => p t ∧ hK (P_kind P t) ∧ held P t (nI b)) ⟨(hs t (by omega)).mp c, bI_n0.mp c2⟩] at ih1
        rw [nI_1, nI_1]
        exact ih1
    · rw [if_neg c]
      refine ⟨fun _ => ?_, fun z => absurd z (by decide)⟩
      rw [cn_f (p := fun t => p t ∧ hK (P_kind P t) ∧ held P t (nI b)) (fun z => c ((hs t (by omega)).mpr z.1))] at ih1
      rw [nI_1, i_0]
      exact ih1
theorem lp_aloneIn (hV : V (G_M_ g m) w) (hM : MR m0 P m) (hz : ∀ b, b < 96 → M_holds m b = nI (hCn P b)) {set : Int32} {p : Nat → Prop} (hs : ∀ k, k < 32 → (tb set k = true ↔ p k)) (h : QR (some (vL (sb P (aloP P p) 96))) w) : ∀ n k, k + n = 96 → wp KX3_aloneIn rc rs QR QX 9 [(0, vR (some (g_m g))), (1, vI set), (2, vL (sb P (aloP P p) k)), (4, vI (nI k))] [] w := by
  intro n
  induction n with
  | zero =>
    intro k hk
    refine sg_X3_aloneIn_9 (lpc (N := 96) rfl (by decide) hk (fun _ => ?_) (fun m e => by omega))
    have : k = 96 := by omega
    subst this
    exact h
  | succ n ih =>
    intro k hk
    exact sg_X3_aloneIn_9 (lpc (N := 96) rfl (by decide) hk (fun e => by omega) (fun _ e hk2 => lp_aloneIn2 hV hM hz hs hk2 (ih (k + 1) (by omega)) 20 0 rfl))
theorem c_X3_aloneIn (hV : V (G_M_ g m) w) (hM : MR m0 P m) (hO : SO P) {set : Int32} {p : Nat → Prop} (hs : ∀ k, k < 32 → (tb set k = true ↔ p k)) (h : ∀ m' w', V (G_M_ g m') w' → MR m0 P m' → QR (some (vL (sb P (aloP P p) 96))) w') : ct KX3_aloneIn 0 0 [vR (some (g_m g)), vI set] w QR QX :=
  st_X3_aloneIn (sg_X3_aloneIn_0 ⟨hV.mO, u_counts hV hM hO (fun m1 w1 h1 M1 hz => ⟨rfl, lp_aloneIn h1 M1 hz hs (h m1 w1 h1 M1) 96 0 rfl⟩)⟩)
noncomputable def r_alone (P : PT) (x : Int32) : Int64 := if hK (kdI P x) then sb P (aloP P (fun t => t = x.toNatClampNeg)) 96 else NOL
theorem c_X3_alone (hV : V (G_M_ g m) w) (hM : MR m0 P m) (hO : SO P) {x : Int32} (h : ∀ m' w', V (G_M_ g m') w' → MR m0 P m' → QR (some (vL (r_alone P x))) w') : ct KX3_alone 0 0 [vR (some (g_m g)), vI x] w QR QX := by
  have h0 := h m w hV hM
  unfold r_alone at h h0
  refine st_X3_alone (sg_X3_alone_0 ⟨hV.mO, c_X3_hasSlots hV hM.e ⟨_, rfl, fun c => ?_, fun c => ⟨hV.mO, ?_⟩⟩⟩)
  · rwa [if_neg (b2i_0.mp c)] at h0
  · have c1 := b2i_n0.mp c
    rw [if_pos c1] at h
    obtain ⟨t, ht, rfl, hk⟩ := hK_n c1
    rw [nI_clamp (by omega)] at h
    refine c_X3_aloneIn hV hM hO (p := fun k => k = t) (fun k hk2 => ?_) (fun m' w' h1 M1 => ⟨_, rfl, h m' w' h1 M1⟩)
    rw [tb_1s (by omega)]
    simp [hk2]
    omega
theorem lp_range (hV : V (G_M_ g m) w) (hM : MR m0 P m) (hO : SO P) {a : Nat} (ha : a < 20) {i2 : Int32} : ∀ (l q : List Nat) (y set : Int32), Ch P y l → (∀ k, k < 32 → (tb set k = true ↔ k ∈ q)) → (∀ m' w', V (G_M_ g m') w' → MR m0 P m' → QR (some (vL (rngO P (upt a l) q))) w') → wp KX3_range rc rs QR QX 25 [(0, vR (some (g_m g))), (1, vI (nI a)), (2, vI i2), (3, vI set), (4, vI y)] [] w := by
  intro l
  induction l with
  | nil =>
    intro q y set hy hs h
    have e : y = -1 := hy
    subst e
    exact sg_X3_range_25 ⟨fun _ => ⟨fun z => absurd rfl z, fun _ => h m w hV hM⟩, fun z => absurd rfl z⟩
  | cons i l ih =>
    intro q y set hy hs h
    obtain ⟨rfl, hi, hc⟩ := hy
    have hn := m1_ne i (by omega)
    refine sg_X3_range_25 ⟨fun z => absurd z hn, fun _ => ⟨fun c => ⟨fun _ => ⟨hV.mO, ?_⟩, fun z => absurd z hn⟩, fun c => ⟨_, hV.mf_s, _, g_prev hV hM.e hi, ?_⟩⟩⟩
    · have e : i = a := (nI_eq (by omega) (by omega)).mp c
      subst e
      refine c_X3_aloneIn hV hM hO (p := fun k => k ∈ q ++ [i]) (fun k hk2 => ?_) (fun m' w' h1 M1 => ⟨_, rfl, ?_⟩)
      · rw [tb_or, tb_1s (by omega)]
        simp only [Bool.or_eq_true, List.mem_append, List.mem_singleton, hs k hk2, Bool.and_eq_true, decide_eq_true_eq]
        constructor
        · rintro (z | ⟨-, z⟩)
          · exact Or.inl z
          · exact Or.inr z.symm
        · rintro (z | z)
          · exact Or.inl z
          · exact Or.inr ⟨hk2, z.symm⟩
      · have := h m' w' h1 M1
        unfold upt at this
        rw [if_pos rfl] at this
        exact this
    · have e : ¬ i = a := fun z => c (by rw [z])
      refine ih (q ++ [i]) _ _ hc (fun k hk2 => ?_) (fun m' w' h1 M1 => ?_)
      · rw [tb_or, tb_1s (by omega)]
        simp only [Bool.or_eq_true, List.mem_append, List.mem_singleton, hs k hk2, Bool.and_eq_true, decide_eq_true_eq]
        constructor
        · rintro (z | ⟨-, z⟩)
          · exact Or.inl z
          · exact Or.inr z.symm
        · rintro (z | z)
          · exact Or.inl z
          · exact Or.inr ⟨hk2, z.symm⟩
      · have := h m' w' h1 M1
        unfold upt at this
        rw [if_neg e] at this
        cases eu : upt a l with
        | none =>
          rw [eu] at this
          exact this
        | some r =>
          rw [eu] at this
          show QR (some (vL (sb P (aloP P (fun t => t ∈ (q ++ [i]) ++ r)) 96))) w'
          rw [List.append_assoc]
          exact this
noncomputable def r_range (P : PT) (l : List Nat) (x y : Int32) : Int64 := if sK (kdI P x) ∧ sK (kdI P y) then rngO P (upt x.toNatClampNeg l) [] else NOL
theorem sK_n {x : Int32} (h : sK (kdI P x)) : ∃ t : Nat, t < 20 ∧ x = nI t ∧ sK (P_kind P t) := by
  obtain ⟨t, ht, rfl, -⟩ := hK_n (Or.inr h)
  rw [kdI_n ht] at h
  exact ⟨t, ht, rfl, h⟩
theorem c_X3_range (hV : V (G_M_ g m) w) (hM : MR m0 P m) (hO : SO P) {x y : Int32} {l : List Nat} (hc : ∀ t, t < 20 → y = nI t → sK (P_kind P t) → Ch P y l) (h : ∀ m' w', V (G_M_ g m') w' → MR m0 P m' → QR (some (vL (r_range P l x y))) w') : ct KX3_range 0 0 [vR (some (g_m g)), vI x, vI y] w QR QX := by
  have h0 := h m w hV hM
  unfold r_range at h h0
  refine st_X3_range (sg_X3_range_0 ⟨hV.mO, c_X3_isSnapshot hV hM.e ⟨_, rfl, fun c => ?_, fun c => ⟨hV.mO, c_X3_isSnapshot hV hM.e ⟨_, rfl, fun c2 => ?_, fun c2 => ?_⟩⟩⟩⟩)
  · rwa [if_neg (fun z => b2i_0.mp c z.1)] at h0
  · have c1 := b2i_n0.mp c
    have c3 := b2i_n0.mp c2
    rw [if_pos ⟨c1, c3⟩] at h
    obtain ⟨t, ht, rfl, hk⟩ := sK_n c1
    obtain ⟨u, hu, rfl, hk2⟩ := sK_n c3
    rw [nI_clamp (by omega)] at h
    refine lp_range hV hM hO ht l [] (nI u) 0 (hc u hu rfl hk2) (fun k _ => ?_) h
    rw [tb_0]
    simp
  · rwa [if_neg (fun z => b2i_0.mp c2 z.2)] at h0
/-! those owned, the newest first -/
def gD (L : List Nat) (i : Nat) : Nat := L.getD i 0
/-- newest holds L -/
def NW (m : MT) (L : List Nat) : Prop := M_owns m = nI L.length ∧ ∀ i, i < L.length → M_newest m i = nI (gD L i)
/-- L: those below n of an owner, by made -/
def LO1 (P : PT) (x : Int32) (n : Nat) (L : List Nat) : Prop := (∀ u, u ∈ L ↔ u < n ∧ sK (P_kind P u) ∧ P_owner P u = x) ∧ L.Pairwise (fun a b => ¬ P_made P a < P_made P b) ∧ L.Nodup ∧ L.length ≤ n
theorem gD_mem {L : List Nat} {i : Nat} (h : i < L.length) : gD L i ∈ L := by
  unfold gD
  rw [List.getD_eq_getElem?_getD, List.getElem?_eq_getElem h]
  exact List.getElem_mem h
theorem gD_ins {L : List Nat} {t k i : Nat} (hk : k ≤ L.length) : gD (L.take k ++ t :: L.drop k) i = if i < k then gD L i else if i = k then t else gD L (i - 1) := by
  unfold gD
  rw [List.getD_eq_getElem?_getD, List.getElem?_append]
  have hl : (L.take k).length = k := by rw [List.length_take]; omega
  rw [hl]
  by_cases c : i < k
  · rw [if_pos c, if_pos c, List.getElem?_take, if_pos c, List.getD_eq_getElem?_getD]
  · rw [if_neg c, if_neg c]
    by_cases c2 : i = k
    · subst c2
      rw [if_pos rfl, Nat.sub_self]
      rfl
    · rw [if_neg c2]
      have : i - k = (i - 1 - k) + 1 := by omega
      rw [this, List.getElem?_cons_succ, List.getElem?_drop, List.getD_eq_getElem?_getD]
      congr 2
      omega
theorem ins_len {L : List Nat} {t k : Nat} (hk : k ≤ L.length) : (L.take k ++ t :: L.drop k).length = L.length + 1 := by
  rw [List.length_append, List.length_take, List.length_cons, List.length_drop]
  omega
theorem lp_looksForOwned2 {x : Int32} {L : List Nat} {t : Nat} (ht : t < 20) (hL : LO1 P x t L) (h : ∀ m' w' k, V (G_M_ g m') w' → MRw m0 P m' → NW m' (L.take k ++ t :: L.drop k) → k ≤ L.length → (∀ i, i < L.length → k ≤ i → P_made P (gD L i) < P_made P t) → (0 < k → ¬ P_made P (gD L (k - 1)) < P_made P t) → wp KX3_looksForOwned rc rs QR QX 7 [(0, vR (some (g_m g))), (1, vI x), (2, vI (nI (t + 1)))] [] w') : ∀ k m1 w1, k ≤ L.length → V (G_M_ g m1) w1 → MRw m0 P m1 → M_owns m1 = nI L.length → (∀ i, i < k → M_newest m1 i = nI (gD L i)) → (∀ i, k < i → i ≤ L.length → M_newest m1 i = nI (gD L (i - 1))) → (∀ i, i < L.length → k ≤ i → P_made P (gD L i) < P_made P t) → wp KX3_looksForOwned rc rs QR QX 39 [(0, vR (some (g_m g))), (1, vI x), (2, vI (nI t)), (3, vI (nI k))] [] w1 := by
  have hlen := hL.2.2.2
  have fin : ∀ k m1 w1, k ≤ L.length → V (G_M_ g m1) w1 → MRw m0 P m1 → M_owns m1 = nI L.length → (∀ i, i < k → M_newest m1 i = nI (gD L i)) → (∀ i, k < i → i ≤ L.length → M_newest m1 i = nI (gD L (i - 1))) → (∀ i, i < L.length → k ≤ i → P_made P (gD L i) < P_made P t) → (0 < k → ¬ P_made P (gD L (k - 1)) < P_made P t) → ∃ x92 : Nat, gf w1 (g_m g) [3] 6 (vR (some x92)) ∧ pI w1 x92 (nI k) (nI t) (fun w97 => ∃ x100 : Int32, gf w97 (g_m g) [3] 7 (vI x100) ∧ pf w97 (g_m g) [3] 7 (vI (x100 + 1)) (fun w105 => wp (KX3_looksForOwned) rc rs QR QX 7 [(0, vR (some (g_m g))), (1, vI x), (2, vI (nI t + 1))] [] w105)) := by
    intro k m1 w1 hk hV hM ho h1 h2 h3 h4
    refine ⟨_, hV.mf_newest, hV.mp_newest (vp_in_nI (by omega) (by decide)) (fun w2 hV2 => ⟨_, hV2.mf_owns, hV2.mpf_owns (fun w3 hV3 => ?_)⟩)⟩
    rw [nI_1]
    refine h _ w3 k hV3 hM ⟨?_, fun i hi => ?_⟩ hk h3 h4
    · show M_owns m1 + 1 = _
      rw [ho, nI_1, ins_len hk]
    · show upd (M_newest m1) (nI k).toNatClampNeg (nI t) i = _
      rw [nI_clamp (by omega), gD_ins hk]
      rw [ins_len hk] at hi
      by_cases c : i = k
      · subst c
        rw [pk_us, if_neg (by omega), if_pos rfl]
      · rw [pk_un c]
        by_cases c2 : i < k
        · rw [if_pos c2]
          exact h1 i c2
        · rw [if_neg c2, if_neg c]
          exact h2 i (by omega) (by omega)
  intro k
  induction k with
  | zero =>
    intro m1 w1 hk hV hM ho h1 h2 h3
    exact sg_X3_looksForOwned_39 ⟨fun _ => fin 0 m1 w1 hk hV hM ho h1 h2 h3 (fun z => by omega), fun c => absurd (by decide : nI 0 ≤ 0) c⟩
  | succ k ih =>
    intro m1 w1 hk hV hM ho h1 h2 h3
    have hu : gD L k < 20 := by
      have := ((hL.1 _).mp (gD_mem (by omega : k < L.length))).1
      omega
    have en : M_newest m1 k = nI (gD L k) := h1 k (by omega)
    refine sg_X3_looksForOwned_39 ⟨fun c => absurd c (nI_ge (a := 0) (by omega) (by omega)), fun _ => ⟨_, hV.mf_s, _, hV.mf_newest, nI (gD L k), ?_, _, g_made hV hM.1 hu, _, hV.mf_s, _, g_made hV hM.1 ht, fun c => ?_, fun c => ⟨_, hV.mf_newest, _, hV.mf_newest, nI (gD L k), ?_, ?_⟩⟩⟩
    · rw [nI_m, ← en]
      have := hV.mg_newest (vp_in_nI (by omega : k < 20) (by decide))
      rw [nI_clamp (by omega)] at this
      exact this
    · exact fin (k + 1) m1 w1 hk hV hM ho h1 h2 h3 (fun _ => Int32.not_lt.mpr c)
    · rw [nI_m, ← en]
      have := hV.mg_newest (vp_in_nI (by omega : k < 20) (by decide))
      rw [nI_clamp (by omega)] at this
      exact this
    · refine hV.mp_newest (vp_in_nI (by omega) (by decide)) (fun w2 hV2 => ?_)
      rw [nI_mm]
      refine ih _ w2 (by omega) hV2 hM ho (fun i hi => ?_) (fun i hi hi2 => ?_) (fun i hi hi2 => ?_)
      · show upd (M_newest m1) (nI (k + 1)).toNatClampNeg (nI (gD L k)) i = _
        rw [nI_clamp (by omega), pk_un (by omega)]
        exact h1 i (by omega)
      · show upd (M_newest m1) (nI (k + 1)).toNatClampNeg (nI (gD L k)) i = _
        rw [nI_clamp (by omega)]
        by_cases e : i = k + 1
        · subst e
          rw [pk_us]
          rfl
        · rw [pk_un e]
          exact h2 i (by omega) hi2
      · by_cases e : i = k
        · subst e
          exact Int32.not_le.mp c
        · exact h3 i hi (by omega)
theorem LO1.ins {x : Int32} {L : List Nat} {t k : Nat} (hL : LO1 P x t L) (hk : k ≤ L.length) (ht : sK (P_kind P t) ∧ P_owner P t = x) (h3 : ∀ i, i < L.length → k ≤ i → P_made P (gD L i) < P_made P t) (h4 : 0 < k → ¬ P_made P (gD L (k - 1)) < P_made P t) : LO1 P x (t + 1) (L.take k ++ t :: L.drop k) := by
  obtain ⟨h1, h2, hn, hl⟩ := hL
  have hm : ∀ u, u ∈ L.take k ++ t :: L.drop k ↔ u = t ∨ u ∈ L := by
    intro u
    rw [List.mem_append, List.mem_cons]
    have e : L = L.take k ++ L.drop k := (List.take_append_drop k L).symm
    constructor
    · rintro (z | z | z)
      · exact Or.inr (List.mem_of_mem_take z)
      · exact Or.inl z
      · exact Or.inr (List.mem_of_mem_drop z)
    · rintro (z | z)
      · exact Or.inr (Or.inl z)
      · rw [e] at z
        rcases List.mem_append.mp z with z | z
        · exact Or.inl z
        · exact Or.inr (Or.inr z)
  have htk : ∀ a, a ∈ L.take k → ¬ P_made P a < P_made P t := by
    intro a ha
    obtain ⟨j, hj, rfl⟩ := List.getElem_of_mem ha
    rw [List.length_take] at hj
    rw [List.getElem_take]
    have h4' := h4 (by omega)
    have eg : gD L (k - 1) = L[k - 1]'(by omega) := by
      unfold gD
      rw [List.getD_eq_getElem?_getD, List.getElem?_eq_getElem (by omega)]
      rfl
    rw [eg] at h4'
    by_cases e : j = k - 1
    · subst e
      exact h4'
    · have := List.pairwise_iff_getElem.mp h2 j (k - 1) (by omega) (by omega) (by omega)
      intro z
      rw [Int32.lt_iff_toInt_lt] at *
      omega
  have hdk : ∀ b, b ∈ L.drop k → P_made P b < P_made P t := by
    intro b hb
    obtain ⟨j, hj, rfl⟩ := List.getElem_of_mem hb
    rw [List.length_drop] at hj
    rw [List.getElem_drop]
    have := h3 (k + j) (by omega) (by omega)
    unfold gD at this
    rw [List.getD_eq_getElem?_getD, List.getElem?_eq_getElem (by omega)] at this
    exact this
  have htn : t ∉ L := fun z => by
    have := ((h1 t).mp z).1
    omega
  have h2' := h2
  have hn' := hn
  rw [← List.take_append_drop k L, List.pairwise_append] at h2'
  rw [← List.take_append_drop k L, List.nodup_append] at hn'
  refine ⟨fun u => ?_, ?_, ?_, ?_⟩
  · rw [hm, h1]
    constructor
    · rintro (z | ⟨z1, z2⟩)
      · subst z
        exact ⟨by omega, ht⟩
      · exact ⟨by omega, z2⟩
    · rintro ⟨z1, z2⟩
      by_cases e : u = t
      · exact Or.inl e
      · exact Or.inr ⟨by omega, z2⟩
  · rw [List.pairwise_append]
    refine ⟨h2'.1, List.pairwise_cons.mpr ⟨fun b hb => ?_, h2'.2.1⟩, fun a ha b hb => ?_⟩
    · have := hdk b hb
      intro z
      rw [Int32.lt_iff_toInt_lt] at *
      omega
    · rcases List.mem_cons.mp hb with e | e
      · subst e
        exact htk a ha
      · exact h2'.2.2 a ha b e
  · rw [List.nodup_append]
    refine ⟨hn'.1, List.nodup_cons.mpr ⟨fun z => htn (List.mem_of_mem_drop z), hn'.2.1⟩, fun a ha b hb => ?_⟩
    rcases List.mem_cons.mp hb with e | e
    · subst e
      intro e2
      subst e2
      exact htn (List.mem_of_mem_take ha)
    · exact hn'.2.2 a ha b e
  · rw [ins_len hk]
    omega
theorem LO1.skip {x : Int32} {L : List Nat} {t : Nat} (hL : LO1 P x t L) (ht : ¬ (sK (P_kind P t) ∧ P_owner P t = x)) : LO1 P x (t + 1) L := by
  obtain ⟨h1, h2, hn, hl⟩ := hL
  refine ⟨fun u => ?_, h2, hn, by omega⟩
  rw [h1]
  constructor
  · rintro ⟨z1, z2⟩
    exact ⟨by omega, z2⟩
  · rintro ⟨z1, z2⟩
    by_cases e : u = t
    · subst e
      exact absurd z2 ht
    · exact ⟨by omega, z2⟩
theorem lp_looksForOwned {x : Int32} (h : ∀ m' w' L, V (G_M_ g m') w' → MRw m0 P m' → NW m' L → LO1 P x 20 L → QR none w') : ∀ n t m1 w1 L, t + n = 20 → V (G_M_ g m1) w1 → MRw m0 P m1 → NW m1 L → LO1 P x t L → wp KX3_looksForOwned rc rs QR QX 7 [(0, vR (some (g_m g))), (1, vI x), (2, vI (nI t))] [] w1 := by
  intro n
  induction n with
  | zero =>
    intro t m1 w1 L hk hV hM hN hL
    refine sg_X3_looksForOwned_7 (lpc (N := 20) rfl (by decide) hk (fun _ => ?_) (fun m e => by omega))
    have : t = 20 := by omega
    subst this
    exact h m1 w1 L hV hM hN hL
  | succ n ih =>
    intro t m1 w1 L hk hV hM hN hL
    refine sg_X3_looksForOwned_7 (lpc (N := 20) rfl (by decide) hk (fun e => by omega) (fun m e hk2 => ⟨hV.mO, c_X3_isSnapshot_n hV hM.1 hk2 ⟨_, rfl, fun c => ?_, fun c => ⟨_, hV.mf_s, _, g_owner hV hM.1 hk2, fun c2 => ?_, fun c2 => ⟨_, hV.mf_owns, ?_⟩⟩⟩⟩))
    · rw [nI_1]
      exact ih (t + 1) m1 w1 L (by omega) hV hM hN (hL.skip (fun z => b2i_0.mp c z.1))
    · rw [nI_1]
      exact ih (t + 1) m1 w1 L (by omega) hV hM hN (hL.skip (fun z => c2 z.2))
    · show wp _ _ _ _ _ 39 [_, _, _, (3, vI (M_owns m1))] [] w1
      rw [hN.1]
      exact lp_looksForOwned2 hk2 hL (fun m2 w2 k h2 M2 N2 hk3 h3 h4 => ih (t + 1) m2 w2 _ (by omega) h2 M2 N2 (hL.ins hk3 ⟨b2i_n0.mp c, c2⟩ h3 h4)) L.length m1 w1 (Nat.le_refl _) hV hM hN.1 hN.2 (fun i h1 h2 => by omega) (fun i h1 h2 => by omega)
theorem c_X3_looksForOwned (hV : V (G_M_ g m) w) (hM : MRw m0 P m) {x : Int32} (h : ∀ m' w' L, V (G_M_ g m') w' → MRw m0 P m' → NW m' L → LO1 P x 20 L → QR none w') : ct KX3_looksForOwned 0 0 [vR (some (g_m g)), vI x] w QR QX :=
  st_X3_looksForOwned (sg_X3_looksForOwned_0 (hV.mpf_owns (fun w1 h1 => lp_looksForOwned h 20 0 _ w1 [] rfl h1 hM.oo ⟨rfl, fun i hi => (by cases hi)⟩ ⟨fun u => ⟨fun z => (by cases z), fun z => (by omega)⟩, List.Pairwise.nil, List.nodup_nil, Nat.le_refl _⟩)))
end MU
