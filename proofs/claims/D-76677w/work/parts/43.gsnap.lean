/-! ===== the law of a snapshot removed, of promotions ===== -/
set_option maxRecDepth 100000
set_option maxHeartbeats 400000
section GX
variable {P Q : PT} {D : DT} {B : Nat}
theorem mgL_mem : ∀ (n : Nat) (A C : List Nat), A.length + C.length ≤ n → ∀ b, b ∈ mgL P n A C ↔ b ∈ A ∨ b ∈ C := by
  intro n
  induction n with
  | zero =>
    intro A C h b
    have h1 : A = [] := List.length_eq_zero_iff.mp (by omega)
    have h2 : C = [] := List.length_eq_zero_iff.mp (by omega)
    subst h1
    subst h2
    show b ∈ ([] : List Nat) ↔ _
    simp
  | succ n ih =>
    intro A C h b
    cases A with
    | nil =>
      cases C with
      | nil =>
        show b ∈ ([] : List Nat) ↔ _
        simp
      | cons c C =>
        rw [mgL_nb, List.mem_cons, ih [] C (by simp at h ⊢; omega)]
        simp
    | cons a A =>
      cases C with
      | nil =>
        rw [mgL_an, List.mem_cons, ih A [] (by simp at h ⊢; omega)]
        simp
      | cons c C =>
        by_cases z : lat P a c
        · rw [mgL_t z, List.mem_cons, ih A (c :: C) (by simp at h ⊢; omega), List.mem_cons, List.mem_cons]
          exact or_assoc.symm
        · rw [mgL_f z, List.mem_cons, ih (a :: A) C (by simp at h ⊢; omega), List.mem_cons (a := b) (b := c)]
          constructor
          · rintro (y | y | y)
            · exact Or.inr (Or.inl y)
            · exact Or.inl y
            · exact Or.inr (Or.inr y)
          · rintro (y | y | y)
            · exact Or.inr (Or.inl y)
            · exact Or.inl y
            · exact Or.inr (Or.inr y)
theorem mgL_pw : ∀ (n : Nat) (A C : List Nat), A.length + C.length ≤ n → A.Pairwise (lat P) → C.Pairwise (lat P) → (∀ a, a ∈ A → ¬ a ∈ C) → (mgL P n A C).Pairwise (lat P) := by
  intro n
  induction n with
  | zero =>
    intro A C _ _ _ _
    exact List.Pairwise.nil
  | succ n ih =>
    intro A C h hA hC hd'
    cases A with
    | nil =>
      cases C with
      | nil => exact List.Pairwise.nil
      | cons c C =>
        rw [mgL_nb]
        obtain ⟨c1, c2⟩ := List.pairwise_cons.mp hC
        refine List.pairwise_cons.mpr ⟨fun b hb => ?_, ih [] C (by simp at h ⊢; omega) List.Pairwise.nil c2 (fun a ha => absurd ha List.not_mem_nil)⟩
        rcases (mgL_mem n [] C (by simp at h ⊢; omega) b).mp hb with y | y
        · exact absurd y List.not_mem_nil
        · exact c1 b y
    | cons a A =>
      obtain ⟨a1, a2⟩ := List.pairwise_cons.mp hA
      cases C with
      | nil =>
        rw [mgL_an]
        refine List.pairwise_cons.mpr ⟨fun b hb => ?_, ih A [] (by simp at h ⊢; omega) a2 List.Pairwise.nil (fun a _ => List.not_mem_nil)⟩
        rcases (mgL_mem n A [] (by simp at h ⊢; omega) b).mp hb with y | y
        · exact a1 b y
        · exact absurd y List.not_mem_nil
      | cons c C =>
        obtain ⟨c1, c2⟩ := List.pairwise_cons.mp hC
        by_cases z : lat P a c
        · rw [mgL_t z]
          refine List.pairwise_cons.mpr ⟨fun b hb => ?_, ih A (c :: C) (by simp at h ⊢; omega) a2 hC (fun x hx => hd' x (List.mem_cons_of_mem _ hx))⟩
          rcases (mgL_mem n A (c :: C) (by simp at h ⊢; omega) b).mp hb with y | y
          · exact a1 b y
          · rcases List.mem_cons.mp y with y | y
            · rw [y]; exact z
            · exact lat_tr z (c1 b y)
        · rw [mgL_f z]
          have hne : c ≠ a := fun e => hd' a (List.mem_cons_self ..) (by rw [← e]; exact List.mem_cons_self ..)
          have z2 : lat P c a := (lat_tot hne).resolve_right z
          refine List.pairwise_cons.mpr ⟨fun b hb => ?_, ih (a :: A) C (by simp at h ⊢; omega) hA c2 (fun x hx y => hd' x hx (List.mem_cons_of_mem _ y))⟩
          rcases (mgL_mem n (a :: A) C (by simp at h ⊢; omega) b).mp hb with y | y
          · rcases List.mem_cons.mp y with y | y
            · rw [y]; exact z2
            · exact lat_tr z2 (a1 b y)
          · exact c1 b y
theorem frL_sz (b : Nat) : ∀ (L : List Nat) (P : PT), P_size (frL P L) b = @ite Int32 (b ∈ L) (Classical.propDecidable _) 0 (P_size P b) := by
  intro L
  induction L with
  | nil =>
    intro P
    exact (@if_neg _ (Classical.propDecidable _) List.not_mem_nil _ _ _).symm
  | cons c L ih =>
    intro P
    show P_size (frL (fbP P c) L) b = _
    rw [ih]
    by_cases c1 : b ∈ L
    · rw [@if_pos _ (Classical.propDecidable _) c1]
      exact (@if_pos _ (Classical.propDecidable _) (List.mem_cons_of_mem _ c1) _ _ _).symm
    · rw [@if_neg _ (Classical.propDecidable _) c1]
      simp only [Z_fbP]
      by_cases c2 : b = c
      · rw [c2, fset_s]
        exact (@if_pos _ (Classical.propDecidable _) (List.mem_cons_self ..) _ _ _).symm
      · rw [fset_n c2]
        exact (@if_neg _ (Classical.propDecidable _) (fun y => (List.mem_cons.mp y).elim c2 c1) _ _ _).symm
theorem frL_fr : ∀ (L : List Nat) (P : PT), P_freed (frL P L) = P_freed P + nI L.length := by
  intro L
  induction L with
  | nil =>
    intro P
    exact (i_0 _).symm
  | cons c L ih =>
    intro P
    show P_freed (frL (fbP P c) L) = _
    rw [ih]
    simp only [Z_fbP, List.length_cons]
    rw [Int32.add_assoc, show (1 : Int32) = nI 1 from rfl, nI_add, Nat.add_comm]
theorem cn_mem : ∀ (L : List Nat), L.Nodup → (∀ b, b ∈ L → b < 96) → cn (fun b => b ∈ L) 96 = L.length := by
  intro L
  induction L with
  | nil =>
    intro _ _
    exact cn_no (fun i _ => List.not_mem_nil)
  | cons c L ih =>
    intro hn h
    obtain ⟨n1, n2⟩ := List.nodup_cons.mp hn
    rw [cn_congr (q := fun b => b ∈ L ∨ b = c) (fun i _ => by rw [List.mem_cons]; exact Or.comm), cn_add1 n1 96 (h c (List.mem_cons_self ..)), ih n2 (fun b hb => h b (List.mem_cons_of_mem _ hb))]
    rfl
/-- one next alone -/
theorem nx_u {s u : Nat} (h : nNx P (nI s) = 1) (hu : u < 20) (hk : hK (P_kind P u)) (e : P_prev P u = nI s) : u = nxO P s := by
  obtain ⟨n1, n2, n3⟩ := nxO_lt h
  refine Classical.byContradiction (fun c => ?_)
  have h1 := cn_add1 (p := fun c => c = nxO P s) (b := u) c 20 hu
  rw [cn_one n1] at h1
  have h2 := cn_mono (p := fun c => c = nxO P s ∨ c = u) (q := fun t => hK (P_kind P t) ∧ P_prev P t = nI s) 20 (fun i _ y => by
    rcases y with y | y
    · rw [y]; exact ⟨n2, n3⟩
    · rw [y]; exact ⟨hk, e⟩)
  unfold nNx at h
  omega
theorem gD_ord {L : List Nat} (h : L.Pairwise (lat P)) {i j : Nat} (hij : i ≤ j) (hj : j < L.length) : brI P (gD L j) ≤ brI P (gD L i) := by
  by_cases e : i = j
  · rw [e]; omega
  · have := List.pairwise_iff_getElem.mp h i j (by omega) hj (by omega)
    have gi : ∀ k (hk : k < L.length), L[k] = gD L k := by
      intro k hk
      unfold gD
      rw [List.getD_eq_getElem?_getD, List.getElem?_eq_getElem hk]
      rfl
    rw [gi, gi, lat_i] at this
    omega
/-- the freed of a dead list are those at its head -/
theorem rm_head (h : GI P D B) {s n : Nat} (hn1 : nNx P (nI s) = 1) (hr : rmN P (pm P s) (D (nxO P s)) n) {b : Nat} : (b ∈ (D (nxO P s)).take n ↔ b ∈ D (nxO P s) ∧ pmI P s < brI P b) ∧ (b ∈ (D (nxO P s)).drop n ↔ b ∈ D (nxO P s) ∧ brI P b ≤ pmI P s) := by
  obtain ⟨n1, n2, n3⟩ := nxO_lt hn1
  obtain ⟨d1, d2⟩ := h.dk _ n1 n2
  obtain ⟨r1, r2, r3⟩ := hr
  generalize D (nxO P s) = L at d1 r1 r2 r3 ⊢
  have gi : ∀ k (hk : k < L.length), L[k] = gD L k := by
    intro k hk
    unfold gD
    rw [List.getD_eq_getElem?_getD, List.getElem?_eq_getElem hk]
    rfl
  have lo : ∀ i, i < n → pmI P s < brI P (gD L i) := fun i hi => nle.mp (r2 i hi)
  have hi : ∀ i, n ≤ i → i < L.length → brI P (gD L i) ≤ pmI P s := by
    intro i h1 h2
    have h3 := r3.resolve_left (by omega)
    rw [le_i] at h3
    have h4 := gD_ord d1 h1 h2
    have h5 : brI P (gD L n) ≤ pmI P s := h3
    omega
  have mt : b ∈ L.take n → pmI P s < brI P b := by
    intro y
    obtain ⟨i, hi2, e⟩ := List.mem_iff_getElem.mp y
    rw [List.length_take] at hi2
    rw [List.getElem_take, gi i (by omega)] at e
    rw [← e]
    exact lo i (by omega)
  have md : b ∈ L.drop n → brI P b ≤ pmI P s := by
    intro y
    obtain ⟨i, hi2, e⟩ := List.mem_iff_getElem.mp y
    rw [List.length_drop] at hi2
    rw [List.getElem_drop, gi (n + i) (by omega)] at e
    rw [← e]
    exact hi (n + i) (by omega) (by omega)
  have sp : b ∈ L ↔ b ∈ L.take n ∨ b ∈ L.drop n := by
    rw [← List.mem_append, List.take_append_drop]
  constructor
  · constructor
    · intro y
      exact ⟨sp.mpr (Or.inl y), mt y⟩
    · rintro ⟨y1, y2⟩
      rcases sp.mp y1 with z | z
      · exact z
      · have := md z
        omega
  · constructor
    · intro y
      exact ⟨sp.mpr (Or.inr y), md y⟩
    · rintro ⟨y1, y2⟩
      rcases sp.mp y1 with z | z
      · have := mt z
        omega
      · exact z
/-- what the prev of a snapshot removed holds of what died -/
theorem rm_pv (h : GI P D B) {s n : Nat} (hs : s < 20) (hk : sK (P_kind P s)) (hn1 : nNx P (nI s) = 1) (hr : rmN P (pm P s) (D (nxO P s)) n) {b : Nat} (hb : b < 96) : (b ∈ (D (nxO P s)).drop n ∨ b ∈ D s) ↔ ∃ p k, p < 20 ∧ P_prev P s = nI p ∧ k < 12 ∧ P_slot P p k = nI b ∧ ¬ held P (nxO P s) (nI b) := by
  obtain ⟨n1, n2, n3⟩ := nxO_lt hn1
  obtain ⟨d1, d2⟩ := h.dk _ n1 n2
  obtain ⟨e1, e2⟩ := h.dk s hs (Or.inr hk)
  have ddx : ∀ b, dd P (nxO P s) b ↔ (∃ k, k < 12 ∧ P_slot P s k = nI b) ∧ ¬ held P (nxO P s) (nI b) := by
    intro b
    constructor
    · rintro ⟨p, k, hp, e, hk2, x1, x2⟩
      have : p = s := nIe (by omega) (by omega) (e.symm.trans n3)
      rw [this] at x1
      exact ⟨⟨k, hk2, x1⟩, x2⟩
    · rintro ⟨⟨k, hk2, x1⟩, x2⟩
      exact ⟨s, k, hs, n3, hk2, x1, x2⟩
  constructor
  · rintro (y | y)
    · obtain ⟨y1, y2⟩ := (rm_head h hn1 hr).2.mp y
      obtain ⟨⟨k, hk2, x1⟩, x2⟩ := (ddx b).mp ((d2 b).mp y1).2
      have hhd : hd P s k b := ⟨hs, Or.inr hk, hk2, hb, x1⟩
      have hb1 := (h.j9 b hb (h.j7 s k b hhd)).1
      rcases h.pi.p hs (Or.inr hk) with z | ⟨p, hp, z, hsp⟩
      · rw [pmI_m z] at y2
        omega
      · rw [pmI_n hp z] at y2
        exact ⟨p, k, hp, z, hk2, h.j11 s p k b hhd hp z y2, x2⟩
    · obtain ⟨-, p, k, hp, z, hk2, x1, x2⟩ := (e2 b).mp y
      refine ⟨p, k, hp, z, hk2, x1, fun w => x2 ?_⟩
      obtain ⟨j, hj, x3⟩ := w
      have hsp := h.pv hs (Or.inr hk) hp z
      have hle := h.j10 p k b ⟨hp, Or.inr hsp, hk2, hb, x1⟩ hsp
      have hlt := h.j6 s p hs hk hp z
      exact ⟨j, hj, h.j11 (nxO P s) s j b ⟨n1, n2, hj, hb, x3⟩ hs n3 (by omega)⟩
  · rintro ⟨p, k, hp, z, hk2, x1, x2⟩
    have hsp := h.pv hs (Or.inr hk) hp z
    have hle := h.j10 p k b ⟨hp, Or.inr hsp, hk2, hb, x1⟩ hsp
    by_cases c : held P s (nI b)
    · left
      refine (rm_head h hn1 hr).2.mpr ⟨(d2 b).mpr ⟨hb, (ddx b).mpr ⟨c, x2⟩⟩, ?_⟩
      rw [pmI_n hp z]
      exact hle
    · right
      exact (e2 b).mpr ⟨hb, p, k, hp, z, hk2, x1, c⟩
theorem rm_dj (h : GI P D B) {s n : Nat} (hs : s < 20) (hk : sK (P_kind P s)) (hn1 : nNx P (nI s) = 1) (hr : rmN P (pm P s) (D (nxO P s)) n) : ∀ b, b ∈ (D (nxO P s)).drop n → ¬ b ∈ D s := by
  obtain ⟨n1, n2, n3⟩ := nxO_lt hn1
  obtain ⟨d1, d2⟩ := h.dk _ n1 n2
  obtain ⟨e1, e2⟩ := h.dk s hs (Or.inr hk)
  intro b y y2
  have := ((rm_head h hn1 hr).2.mp y).1
  obtain ⟨-, p, k, hp, e, hk2, x1, x2⟩ := (d2 b).mp this
  have : p = s := nIe (by omega) (by omega) (e.symm.trans n3)
  rw [this] at x1
  obtain ⟨-, q, j, -, -, -, -, x4⟩ := (e2 b).mp y2
  exact x4 ⟨k, hk2, x1⟩
theorem GI.lm (h : GI P D B) : LM P D := by
  intro s n hs hk hn1 hr
  obtain ⟨n1, n2, n3⟩ := nxO_lt hn1
  obtain ⟨d1, d2⟩ := h.dk _ n1 n2
  obtain ⟨e1, e2⟩ := h.dk s hs (Or.inr hk)
  have hnd : ((D (nxO P s)).drop n ++ D s).Nodup := by
    refine List.nodup_append.mpr ⟨(pw_nd d1).sublist (List.drop_sublist n _), pw_nd e1, ?_⟩
    intro a ha b hb e
    rw [e] at ha
    exact rm_dj h hs hk hn1 hr b ha hb
  have hlt : ∀ b, b ∈ (D (nxO P s)).drop n ++ D s → b < 96 := by
    intro b hb
    rcases List.mem_append.mp hb with y | y
    · exact ((d2 b).mp ((rm_head h hn1 hr).2.mp y).1).1
    · exact ((e2 b).mp y).1
  rw [← List.length_append]
  rcases h.pi.p hs (Or.inr hk) with z | ⟨p, hp, z, hsp⟩
  · have : (D (nxO P s)).drop n ++ D s = [] := by
      refine List.eq_nil_iff_forall_not_mem.mpr (fun b hb => ?_)
      obtain ⟨p, k, hp, e, -⟩ := (rm_pv h hs hk hn1 hr (hlt b hb)).mp (List.mem_append.mp hb)
      exact m1_ne p (by omega) (e.symm.trans z)
    rw [this]
    exact Nat.zero_le _
  · refine pig (P_slot P p) 12 _ hnd (fun b hb => ⟨hlt b hb, ?_⟩)
    obtain ⟨q, k, hq, e, hk2, x1, -⟩ := (rm_pv h hs hk hn1 hr (hlt b hb)).mp (List.mem_append.mp hb)
    have : q = p := nIe (by omega) (by omega) (e.symm.trans z)
    rw [this] at x1
    exact ⟨k, hk2, x1⟩
theorem law_rmS (h : GI P D B) {s n : Nat} (hs : s < 20) (hk : sK (P_kind P s)) (hn1 : nNx P (nI s) = 1) (hr : rmN P (pm P s) (D (nxO P s)) n) : nI n = (o_removed P s).1 ∧ rsP P D s n = (o_removed P s).2 ∧ GI (rsP P D s n) (fset D (nxO P s) (mgD P D (nxO P s) s n)) B := by
  obtain ⟨n1, n2, n3⟩ := nxO_lt hn1
  obtain ⟨d1, d2⟩ := h.dk _ n1 n2
  obtain ⟨e1, e2⟩ := h.dk s hs (Or.inr hk)
  have hu : ∀ u, u < 20 → hK (P_kind P u) → P_prev P u = nI s → u = nxO P s := fun u h1 h2 h3 => nx_u hn1 h1 h2 h3
  have hsn : nxO P s ≠ s := fun e => h.j15.2 s hs (by rw [e] at n3; exact n3)
  obtain ⟨y1, y2, y3, y4, y5, y6, y7, y8, y9, y10, y11⟩ := Z_rmP P s
  have hgc : ∀ b, b < 96 → (gcB (rmP P s) b ↔ b ∈ (D (nxO P s)).take n) := by
    intro b hb
    rw [(rm_head h hn1 hr).1, d2 b]
    unfold gcB unh
    rw [y3, y9, y10]
    constructor
    · rintro ⟨q1, q2⟩
      have hp := pos_i.mp q1
      obtain ⟨u, k, hhd⟩ := h.j13 b hb hp
      have us : u = s := by
        refine Classical.byContradiction (fun c => q2 u k hhd.1 hhd.2.2.1 ?_ hhd.2.2.2.2)
        rw [fset_n c]
        exact hhd.2.1
      rw [us] at hhd
      have nh : ¬ held P (nxO P s) (nI b) := by
        rintro ⟨j, hj, e⟩
        refine q2 (nxO P s) j n1 hj ?_ e
        rw [fset_n hsn]
        exact n2
      refine ⟨⟨hb, s, k, hs, n3, hhd.2.2.1, hhd.2.2.2.2, nh⟩, ?_⟩
      refine Classical.byContradiction (fun c => ?_)
      have hb1 := (h.j9 b hb hp).1
      rcases h.pi.p hs (Or.inr hk) with z | ⟨p, hp', z, hsp⟩
      · rw [pmI_m z] at c
        omega
      · rw [pmI_n hp' z] at c
        have e3 := h.j11 s p k b hhd hp' z (by omega)
        have hps : p ≠ s := fun y => h.j15.2 s hs (by rw [y] at z; exact z)
        refine q2 p k hp' hhd.2.2.1 ?_ e3
        rw [fset_n hps]
        exact Or.inr hsp
    · rintro ⟨⟨-, p, k, hp, e, hk2, x1, x2⟩, hpm⟩
      have ps : p = s := nIe (by omega) (by omega) (e.symm.trans n3)
      rw [ps] at x1
      have hhd : hd P s k b := ⟨hs, Or.inr hk, hk2, hb, x1⟩
      refine ⟨pos_i.mpr (h.j7 s k b hhd), fun u j hu2 hj hku e4 => ?_⟩
      have us : u ≠ s := fun y => by rw [y, fset_s] at hku; exact absurd hku (by decide)
      rw [fset_n us] at hku
      refine us (h.sole2 hhd hpm (fun v i hv ev => ?_) ⟨hu2, hku, hj, hb, e4⟩)
      have := hu v hv.1 hv.2.1 ev
      rw [this] at hv
      exact x2 ⟨i, hv.2.2.1, hv.2.2.2.2⟩
  have htl : ((D (nxO P s)).take n).length = n := by
    rw [List.length_take]
    have := hr.1
    omega
  have en : gcN (rmP P s) = n := by
    unfold gcN
    rw [cn_congr hgc, cn_mem _ ((pw_nd d1).sublist (List.take_sublist n _)) (fun b hb => ((d2 b).mp (List.mem_of_mem_take hb)).1), htl]
  have es : gcS (rmP P s) 96 = P_size (frL P ((D (nxO P s)).take n)) := by
    funext b
    rw [frL_sz]
    by_cases c : b ∈ (D (nxO P s)).take n
    · have hb : b < 96 := ((d2 b).mp (List.mem_of_mem_take c)).1
      rw [@if_pos _ (Classical.propDecidable _) c, gcS_z hb ((hgc b hb).mpr c)]
    · rw [@if_neg _ (Classical.propDecidable _) c]
      have : gcS (rmP P s) 96 b = P_size (rmP P s) b := @if_neg _ (Classical.propDecidable _) (fun z => c ((hgc b z.1).mp z.2)) _ _ _
      rw [this, y10]
  have epv : pvR P s 20 = fset (P_prev P) (nxO P s) (P_prev P s) := by
    funext j
    unfold pvR
    by_cases c : j = nxO P s
    · rw [c, fset_s]
      exact if_pos ⟨n1, n2, n3⟩
    · rw [fset_n c]
      exact if_neg (fun y => c (hu j y.1 y.2.1 y.2.2))
  obtain ⟨f1, f2, f3, f4, f5, f6, f7, f8, f9⟩ := frL_e ((D (nxO P s)).take n) P
  have f10 := frL_fr ((D (nxO P s)).take n) P
  rw [htl] at f10
  have eP : rsP P D s n = gcP (rmP P s) := by
    unfold rsP
    refine PT_ext ?_ ?_ ?_ ?_ ?_ ?_ ?_ ?_ ?_ ?_ ?_ <;> simp only [Z_gcP, Z_rmP, Z_kind, Z_prev, f1, f2, f3, f4, f5, f6, f7, f8, f9, f10, en, es, epv]
  refine ⟨?_, eP, ?_⟩
  · show _ = nI (gcN (rmP P s))
    rw [en]
  rw [eP]
  have q1 : P_time (gcP (rmP P s)) = P_time P := by simp only [Z_gcP, Z_rmP]
  have q3 : P_kind (gcP (rmP P s)) = fset (P_kind P) s (-1) := by simp only [Z_gcP, Z_rmP]
  have q4 : P_made (gcP (rmP P s)) = P_made P := by simp only [Z_gcP, Z_rmP]
  have q5 : P_prev (gcP (rmP P s)) = fset (P_prev P) (nxO P s) (P_prev P s) := by simp only [Z_gcP, Z_rmP, epv]
  have q6 : P_owner (gcP (rmP P s)) = P_owner P := by simp only [Z_gcP, Z_rmP]
  have q7 : P_quota (gcP (rmP P s)) = P_quota P := by simp only [Z_gcP, Z_rmP]
  have q8 : P_tags (gcP (rmP P s)) = P_tags P := by simp only [Z_gcP, Z_rmP]
  have q9 : P_slot (gcP (rmP P s)) = P_slot P := by simp only [Z_gcP, Z_rmP]
  have q10 : P_size (gcP (rmP P s)) = gcS (rmP P s) 96 := by simp only [Z_gcP]
  have q11 : P_birth (gcP (rmP P s)) = P_birth P := by simp only [Z_gcP, Z_rmP]
  have hng0 : ∀ b, b < 96 → (gcB (rmP P s) b → ∀ t k, hd P t k b → t = s) := by
    rintro b hb hg t k hh
    refine Classical.byContradiction (fun c => hg.2 t k hh.1 hh.2.2.1 ?_ ?_)
    · rw [y3, fset_n c]; exact hh.2.1
    · rw [y9]; exact hh.2.2.2.2
  have hho : ∀ b, b < 96 → 0 < szN P b → ¬ gcB (rmP P s) b → ∃ t k, t ≠ s ∧ hd P t k b := by
    intro b hb hp hg
    refine Classical.byContradiction (fun c => hg ⟨?_, fun t k ht hk2 hkt e => c ⟨t, k, ?_⟩⟩)
    · rw [y10]; exact pos_i.mpr hp
    · rw [y3] at hkt
      rw [y9] at e
      have cs : t ≠ s := fun y => by rw [y, fset_s] at hkt; exact absurd hkt (by decide)
      rw [fset_n cs] at hkt
      exact ⟨cs, ht, hkt, hk2, hb, e⟩
  clear hgc en es eP f1 f2 f3 f4 f5 f6 f7 f8 f9 f10 epv
  have hsz0 : ∀ b, b < 96 → szN (gcP (rmP P s)) b = 0 ∨ (¬ gcB (rmP P s) b ∧ szN (gcP (rmP P s)) b = szN P b) := by
    intro b hb
    show (P_size (gcP (rmP P s)) b).toInt = 0 ∨ (_ ∧ (P_size (gcP (rmP P s)) b).toInt = (P_size P b).toInt)
    rw [q10]
    by_cases c : gcB (rmP P s) b
    · left
      rw [gcS_z hb c]
      decide
    · right
      rw [gcS_k c, y10]
      exact ⟨c, rfl⟩
  have hszk : ∀ b, b < 96 → ¬ gcB (rmP P s) b → szN (gcP (rmP P s)) b = szN P b := by
    intro b hb c
    show (P_size (gcP (rmP P s)) b).toInt = (P_size P b).toInt
    rw [q10, gcS_k c, y10]
  generalize gcP (rmP P s) = Q at q1 q3 q4 q5 q6 q7 q8 q9 q10 q11 hsz0 hszk ⊢
  have kk : ∀ t, hK (P_kind Q t) → t ≠ s ∧ hK (P_kind P t) := by
    intro t ht
    rw [q3] at ht
    by_cases c : t = s
    · rw [c, fset_s] at ht
      exact absurd ht (by decide)
    · rw [fset_n c] at ht
      exact ⟨c, ht⟩
  have ks : ∀ t, sK (P_kind Q t) → t ≠ s ∧ sK (P_kind P t) := by
    intro t ht
    have := kk t (Or.inr ht)
    rw [q3, fset_n this.1] at ht
    exact ⟨this.1, ht⟩
  have ek : ∀ t, t ≠ s → P_kind Q t = P_kind P t := fun t c => by rw [q3, fset_n c]
  have hq : ∀ t k b, hd Q t k b ↔ t ≠ s ∧ hd P t k b := by
    intro t k b
    constructor
    · rintro ⟨a1, a2, a3, a4, a5⟩
      obtain ⟨c, a2'⟩ := kk t a2
      rw [q9] at a5
      exact ⟨c, a1, a2', a3, a4, a5⟩
    · rintro ⟨c, a1, a2, a3, a4, a5⟩
      exact ⟨a1, by rw [ek t c]; exact a2, a3, a4, by rw [q9]; exact a5⟩
  have epn : P_prev Q (nxO P s) = P_prev P s := by rw [q5, fset_s]
  have epo : ∀ t, t ≠ nxO P s → P_prev Q t = P_prev P t := fun t c => by rw [q5, fset_n c]
  have hbr : ∀ b, brI Q b = brI P b := fun b => by show (P_birth Q b).toInt = _; rw [q11]
  have hmk : ∀ b, mkI Q b = mkI P b := fun b => by show (P_made Q b).toInt = _; rw [q4]
  have htm : tmI Q = tmI P := by show (P_time Q).toInt = _; rw [q1]
  have hpmo : ∀ t, t < 20 → t ≠ nxO P s → pmI Q t = pmI P t := by
    intro t ht c
    show (pm Q t).toInt = (pm P t).toInt
    unfold pm pn
    rw [q4, epo t c]
  have hpmn : pmI Q (nxO P s) = pmI P s := by
    show (pm Q (nxO P s)).toInt = (pm P s).toInt
    unfold pm pn
    rw [q4, epn]
  have pns : ∀ t p, t < 20 → hK (P_kind P t) → t ≠ nxO P s → p < 20 → P_prev P t = nI p → p ≠ s := fun t p ht hkt c hp e y => c (hu t ht hkt (by rw [e, y]))
  have sps : ∀ p, p < 20 → P_prev P s = nI p → p ≠ s := fun p hp e y => h.j15.2 s hs (by rw [y] at e; exact e)
  refine GS.gi ⟨⟨fun t ht => ?_, fun t ht hkt => ?_, fun t ht hkt => ?_, fun t k ht hk2 => ?_⟩, fun t ht => ?_, fun b hb => ?_, ?_, fun t ht hst => ?_, fun t p ht hst hp e => ?_, fun t k b hh => ?_, fun t u k j b x1 x2 => ?_, fun b hb hp => ?_, fun t k b hh hst => ?_, fun t p k b hh hp e hle => ?_, fun t u k j b x1 x2 l1 l2 => ?_, fun b hb hp => ?_, fun t g ht hkt hg e => ?_, ⟨fun t ht => ?_, fun t ht e => ?_⟩⟩ (fun u hu2 hku => ?_)
  · by_cases c : t = s
    · rw [q3, c, fset_s]
      exact Or.inl rfl
    · rw [ek t c]
      exact h.pi.1 t ht
  · obtain ⟨c, hkt'⟩ := kk t hkt
    by_cases c2 : t = nxO P s
    · rw [c2, epn]
      rcases h.pi.p hs (Or.inr hk) with z | ⟨p, hp, z, hsp⟩
      · exact Or.inl z
      · exact Or.inr ⟨p, hp, z, by rw [ek p (sps p hp z)]; exact hsp⟩
    · rw [epo t c2]
      rcases h.pi.p ht hkt' with z | ⟨p, hp, z, hsp⟩
      · exact Or.inl z
      · exact Or.inr ⟨p, hp, z, by rw [ek p (pns t p ht hkt' c2 hp z)]; exact hsp⟩
  · obtain ⟨c, hkt'⟩ := ks t hkt
    rw [q6]
    obtain ⟨g, hg, z, hkg⟩ := h.pi.o ht hkt'
    exact ⟨g, hg, z, by rw [ek g (fun y => by rw [y] at hkg; exact f_ns hkg hk)]; exact hkg⟩
  · rw [q9]
    exact h.pi.s t k ht hk2
  · obtain ⟨w1, w2, w3, w4⟩ := h.tq t ht
    by_cases c : t = s
    · rw [c, q3, fset_s]
      exact ⟨fun _ => Or.inl rfl, fun _ => Or.inl rfl, fun _ => Or.inl rfl, fun y => absurd y (by decide)⟩
    · rw [ek t c, q6, q7, q8]
      refine ⟨w1, w2, w3, fun y => ?_⟩
      have c2 : t ≠ nxO P s := fun z => by rw [z] at y; exact kd_ne n2 y
      rw [epo t c2]
      exact w4 y
  · rcases hsz0 b hb with z | ⟨-, z⟩
    · rw [z]; omega
    · rw [z]; exact h.j3 b hb
  · unfold i4
    rw [htm]
    exact h.j4
  · rw [hmk, htm]
    exact h.j5 t ht (ks t hst).2
  · obtain ⟨c, hst'⟩ := ks t hst
    rw [hmk, hmk]
    by_cases c2 : t = nxO P s
    · rw [c2, epn] at e
      rw [c2] at hst' ⊢
      have l1 := h.j6 s p hs hk hp e
      have l2 := h.j6 (nxO P s) s n1 hst' hs n3
      omega
    · rw [epo t c2] at e
      exact h.j6 t p ht hst' hp e
  · obtain ⟨c, hh'⟩ := (hq t k b).mp hh
    rw [hszk b hh'.2.2.2.1 (fun y => c (hng0 b hh'.2.2.2.1 y t k hh'))]
    exact h.j7 t k b hh'
  · exact h.j8 t u k j b ((hq t k b).mp x1).2 ((hq u j b).mp x2).2
  · rw [hbr, htm]
    rcases hsz0 b hb with z | ⟨-, z⟩
    · omega
    · rw [z] at hp
      exact h.j9 b hb hp
  · rw [hbr, hmk]
    exact h.j10 t k b ((hq t k b).mp hh).2 (ks t hst).2
  · obtain ⟨c, hh'⟩ := (hq t k b).mp hh
    rw [hbr, hmk] at hle
    rw [q9]
    by_cases c2 : t = nxO P s
    · rw [c2, epn] at e
      rw [c2] at hh'
      have l1 := h.j6 s p hs hk hp e
      have x := h.j11 (nxO P s) s k b hh' hs n3 (by omega)
      exact h.j11 s p k b ⟨hs, Or.inr hk, hh'.2.2.1, hh'.2.2.2.1, x⟩ hp e hle
    · rw [epo t c2] at e
      exact h.j11 t p k b hh' hp e hle
  · obtain ⟨c1, z1⟩ := (hq t k b).mp x1
    obtain ⟨c2, z2⟩ := (hq u j b).mp x2
    rw [hbr] at l1 l2
    have key : ∀ u j, u ≠ s → u ≠ nxO P s → hd P u j b → pmI Q u < brI P b → ∀ k, hd P (nxO P s) k b → pmI Q (nxO P s) < brI P b → False := by
      intro u j cu cn hhu lu k hhn ln
      rw [hpmo u hhu.1 cn] at lu
      rw [hpmn] at ln
      by_cases c : pmI P (nxO P s) < brI P b
      · exact cn (h.j12 u (nxO P s) j k b hhu hhn lu c)
      · rw [pmI_n hs n3] at c
        have x := h.j11 (nxO P s) s k b hhn hs n3 (by omega)
        exact cu (h.j12 u s j k b hhu ⟨hs, Or.inr hk, hhn.2.2.1, hhn.2.2.2.1, x⟩ lu ln)
    by_cases ct : t = nxO P s
    · by_cases cu : u = nxO P s
      · rw [ct, cu]
      · rw [ct] at z1 l1
        exact (key u j c2 cu z2 l2 k z1 l1).elim
    · by_cases cu : u = nxO P s
      · rw [cu] at z2 l2
        exact (key t k c1 ct z1 l1 j z2 l2).elim
      · rw [hpmo t z1.1 ct] at l1
        rw [hpmo u z2.1 cu] at l2
        exact h.j12 t u k j b z1 z2 l1 l2
  · rcases hsz0 b hb with z | ⟨hg, z⟩
    · omega
    · rw [z] at hp
      obtain ⟨t, k, ct, hh⟩ := hho b hb hp hg
      exact ⟨t, k, (hq t k b).mpr ⟨ct, hh⟩⟩
  · rw [q6] at e
    obtain ⟨ct, hkt'⟩ := ks t hkt
    obtain ⟨m, hm, hkm, em, w⟩ := h.j14 t g ht hkt' hg e
    by_cases cm : m = s
    · rw [cm] at em w
      have hgk : fK (P_kind P g) := by
        obtain ⟨g', hg', z, hkg⟩ := h.pi.o ht hkt'
        have : g' = g := nIe (by omega) (by omega) (z.symm.trans e)
        rw [← this]
        exact hkg
      have eo : P_owner P s = nI g := by
        rcases w with w | ⟨-, w⟩
        · rw [← w] at hgk
          exact absurd hk (f_ns hgk)
        · exact w
      obtain ⟨m', hm', hkm', em', w'⟩ := h.j14 s g hs hk hg eo
      have : m' = nxO P s := hu m' hm' hkm' em'
      rw [this] at w' hkm'
      refine ⟨nxO P s, n1, by rw [ek _ hsn]; exact n2, by rw [epn]; exact em, ?_⟩
      rw [ek _ hsn, q6]
      exact w'
    · have cn : m ≠ nxO P s := fun y => ct (nIe (by omega) (by omega) (by rw [← em, y, n3]))
      exact ⟨m, hm, by rw [ek m cm]; exact hkm, by rw [epo m cn]; exact em, by rw [ek m cm, q6]; exact w⟩
  · by_cases c2 : t = nxO P s
    · rw [c2, epn]
      exact h.j15.1 s hs
    · rw [epo t c2]
      exact h.j15.1 t ht
  · by_cases c2 : t = nxO P s
    · rw [c2, epn] at e
      have hsx := h.pv hs (Or.inr hk) n1 e
      have l1 := h.j6 s (nxO P s) hs hk n1 e
      have l2 := h.j6 (nxO P s) s n1 hsx hs n3
      omega
    · rw [epo t c2] at e
      exact h.j15.2 t ht e
  · obtain ⟨c, hku'⟩ := kk u hku
    rw [lat_cg q11]
    by_cases c2 : u = nxO P s
    · rw [c2, fset_s]
      unfold mgD
      refine ⟨mgL_pw _ _ _ (Nat.le_refl _) (d1.sublist (List.drop_sublist n _)) e1 (rm_dj h hs hk hn1 hr), fun b => ?_⟩
      rw [mgL_mem _ _ _ (Nat.le_refl _)]
      constructor
      · intro y
        have hb : b < 96 := by
          rcases y with y | y
          · exact ((d2 b).mp ((rm_head h hn1 hr).2.mp y).1).1
          · exact ((e2 b).mp y).1
        obtain ⟨p, k, hp, z, hk2, x1, x2⟩ := (rm_pv h hs hk hn1 hr hb).mp y
        refine ⟨hb, p, k, hp, by rw [epn]; exact z, hk2, by rw [q9]; exact x1, ?_⟩
        unfold held
        rw [q9]
        exact x2
      · rintro ⟨hb, p, k, hp, z, hk2, x1, x2⟩
        rw [epn] at z
        unfold held at x2
        rw [q9] at x1 x2
        exact (rm_pv h hs hk hn1 hr hb).mpr ⟨p, k, hp, z, hk2, x1, x2⟩
    · rw [fset_n c2]
      obtain ⟨w1, w2⟩ := h.dk u hu2 hku'
      refine ⟨w1, fun b => ?_⟩
      rw [w2 b]
      unfold dd held
      rw [epo u c2, q9]
theorem law_remove (h : GI P D B) {i v : Int32} {P' : PT} {D' : DT} (r : rvR P D i v P' D') : v = (o_remove P i).1 ∧ P' = (o_remove P i).2 ∧ GI P' D' B := by
  unfold o_remove
  rcases r with ⟨x1, x0, x2, x3⟩ | ⟨t, ht, rfl, r⟩
  · rw [if_neg x0, x1, x2, x3]
    exact ⟨rfl, rfl, h⟩
  · have go : ∀ w, ¬ P_kind P t = -1 → (if thr P (nI t) = 0 then w else (thr P (nI t), P)) = w := by
      intro w hn
      rw [if_pos (thr_0.mpr ⟨t, ht, rfl, hn⟩)]
    rcases r with ⟨c, x1, x2, x3⟩ | ⟨c, c2, x1, x2, x3⟩ | ⟨c, c2, x1, x2, x3⟩ | ⟨c, c2, x1, x2, x3⟩ | ⟨c, c2, n, hr, x1, x2, x3⟩
    · have hn : ¬ P_kind P t = -1 := by rw [c]; decide
      have ns : ¬ stuck P t := by
        rintro (⟨y, -⟩ | ⟨y, -⟩)
        · rw [c] at y; exact absurd y (by decide)
        · rw [c] at y; exact absurd y (by decide)
      rw [go _ hn, nI_clamp (by omega), @if_neg _ (Classical.propDecidable _) ns, x1, x2, x3]
      exact law_rmB h ht c
    · have hn : ¬ P_kind P t = -1 := hK_m1 (Or.inl c)
      rw [go _ hn, nI_clamp (by omega), @if_pos _ (Classical.propDecidable _) (show stuck P t from Or.inr ⟨c, c2⟩), x1, x2, x3]
      exact ⟨rfl, rfl, h⟩
    · have hn : ¬ P_kind P t = -1 := hK_m1 (Or.inl c)
      have ns : ¬ stuck P t := by
        rintro (⟨y, -⟩ | ⟨-, y⟩)
        · exact f_ns c y
        · exact c2 y
      rw [go _ hn, nI_clamp (by omega), @if_neg _ (Classical.propDecidable _) ns, x1, x2, x3]
      exact law_rmF h ht c c2
    · have hn : ¬ P_kind P t = -1 := hK_m1 (Or.inr c)
      have hnx : 0 < nNx P (nI t) := by
        obtain ⟨g, hg, e, -⟩ := h.pi.o ht c
        obtain ⟨m, hm, hkm, em, -⟩ := h.j14 t g ht c hg e
        have := cn_lt (p := fun _ => False) (q := fun u => hK (P_kind P u) ∧ P_prev P u = nI t) (j := m) ⟨hkm, em⟩ (fun y => y) 20 hm (fun i _ y => y.elim)
        unfold nNx
        omega
      have st : stuck P t := by
        refine Or.inl ⟨c, ?_⟩
        by_cases z : P_tags P t = 0
        · refine Or.inr ?_
          have : ¬ nNx P (nI t) = 1 := fun y => c2 ⟨z, y⟩
          omega
        · exact Or.inl z
      rw [go _ hn, nI_clamp (by omega), @if_pos _ (Classical.propDecidable _) st, x1, x2, x3]
      exact ⟨rfl, rfl, h⟩
    · have hn : ¬ P_kind P t = -1 := hK_m1 (Or.inr c)
      have ns : ¬ stuck P t := by
        rintro (⟨-, y | y⟩ | ⟨y, -⟩)
        · exact y c2.1
        · have := c2.2
          omega
        · exact f_ns y c
      rw [go _ hn, nI_clamp (by omega), @if_neg _ (Classical.propDecidable _) ns, x1, x2, x3]
      exact law_rmS h ht c c2.2 hr
end GX
