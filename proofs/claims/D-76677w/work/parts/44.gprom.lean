/-! ===== the law of promotions; chains of folders ===== -/
set_option maxRecDepth 100000
set_option maxHeartbeats 400000
section GP
variable {P : PT} {D : DT} {B : Nat}
theorem Ch.un : ∀ (L1 L2 : List Nat) (y : Int32), Ch P y L1 → Ch P y L2 → L1 = L2 := by
  intro L1
  induction L1 with
  | nil =>
    intro L2 y h1 h2
    cases L2 with
    | nil => rfl
    | cons i L =>
      have e : y = -1 := h1
      exact absurd (h2.1.symm.trans e) (m1_ne i (by have := h2.2.1; omega))
  | cons i L1 ih =>
    intro L2 y h1 h2
    cases L2 with
    | nil =>
      have e : y = -1 := h2
      exact absurd (h1.1.symm.trans e) (m1_ne i (by have := h1.2.1; omega))
    | cons j L2 =>
      have e : i = j := nIe (by have := h1.2.1; omega) (by have := h2.2.1; omega) (h1.1.symm.trans h2.1)
      subst e
      rw [ih L2 _ h1.2.2 h2.2.2]
/-- a chain goes down in time -/
theorem GI.chp (h : GI P D B) : ∀ (L : List Nat) (y : Int32), CS P L → Ch P y L → L.Pairwise (fun a b => mkI P b < mkI P a) := by
  intro L
  induction L with
  | nil => intro y _ _; exact List.Pairwise.nil
  | cons i L ih =>
    intro y hcs hc
    obtain ⟨hi, hs⟩ := hcs i (List.mem_cons_self ..)
    have cs2 : CS P L := fun j hj => hcs j (List.mem_cons_of_mem _ hj)
    have ih1 := ih _ cs2 hc.2.2
    refine List.pairwise_cons.mpr ⟨fun j hj => ?_, ih1⟩
    cases L with
    | nil => exact absurd hj List.not_mem_nil
    | cons k L =>
      obtain ⟨e, hk, -⟩ := hc.2.2
      have l1 := h.j6 i k hi hs hk e
      rcases List.mem_cons.mp hj with z | z
      · rw [z]; exact l1
      · have := (List.pairwise_cons.mp ih1).1 j z
        omega
theorem GI.chd (h : GI P D B) {L : List Nat} {y : Int32} (hcs : CS P L) (hc : Ch P y L) : L.Nodup := by
  refine List.Pairwise.imp ?_ (h.chp L y hcs hc)
  intro a b hl e
  rw [e] at hl
  omega
/-- an own snapshot lies on its folder's chain, all ahead of it are own -/
theorem GI.own (h : GI P D B) {g : Nat} (hg : g < 20) (hk : fK (P_kind P g)) : ∀ (n : Nat) (s : Nat), s < 20 → sK (P_kind P s) → P_owner P s = nI g → tmI P - mkI P s ≤ (n : Int) → ∃ pre post, chl P g = pre ++ s :: post ∧ ∀ x, x ∈ pre → P_owner P x = nI g := by
  have hC := h.ch hg (Or.inl hk)
  have hcs := h.pi.cs hg (Or.inl hk) hC
  intro n
  induction n with
  | zero =>
    intro s hs hks e hle
    have := (h.j5 s hs hks).2
    omega
  | succ n ih =>
    intro s hs hks e hle
    obtain ⟨m, hm, hkm, em, w⟩ := h.j14 s g hs hks hg e
    rcases w with w | ⟨w1, w2⟩
    · rw [w] at em
      rw [em] at hC
      cases hL : chl P g with
      | nil =>
        rw [hL] at hC
        have e0 : nI s = -1 := hC
        exact absurd e0 (m1_ne s (by omega))
      | cons i L =>
        rw [hL] at hC
        have ei : i = s := nIe (by have := hC.2.1; omega) (by omega) hC.1.symm
        exact ⟨[], L, by rw [ei]; rfl, fun x hx => absurd hx List.not_mem_nil⟩
    · have l1 := h.j6 m s hm w1 hs em
      obtain ⟨pre, post, e1, e2⟩ := ih m hm w1 w2 (by omega)
      have hsx : ∀ (A : List Nat) (y : Int32) (C : List Nat), Ch P y (A ++ m :: C) → Ch P (P_prev P m) C := by
        intro A
        induction A with
        | nil => intro y C hc; exact hc.2.2
        | cons a A ihA => intro y C hc; exact ihA _ C hc.2.2
      rw [e1] at hC
      have hp := hsx pre _ post hC
      rw [em] at hp
      cases post with
      | nil =>
        have e0 : nI s = -1 := hp
        exact absurd e0 (m1_ne s (by omega))
      | cons i L =>
        have ei : i = s := nIe (by have := hp.2.1; omega) (by omega) hp.1.symm
        refine ⟨pre ++ [m], L, ?_, fun x hx => ?_⟩
        · rw [e1, ei, List.append_assoc]
          rfl
        · rcases List.mem_append.mp hx with z | z
          · exact e2 x z
          · rw [List.mem_singleton.mp z]
            exact w2
theorem owS_at {o v : Int32} (hov : ¬ o = v) (t : Nat) : ∀ (L : List Nat) (F : Nat → Int32), owS o v L F t = @ite Int32 (t ∈ L ∧ F t = o) (Classical.propDecidable _) v (F t) := by
  intro L
  induction L with
  | nil =>
    intro F
    exact (@if_neg _ (Classical.propDecidable _) (fun y => absurd y.1 List.not_mem_nil) _ _ _).symm
  | cons i L ih =>
    intro F
    show owS o v L (if F i = o then fset F i v else F) t = _
    rw [ih]
    by_cases c : F i = o
    · rw [if_pos c]
      by_cases e : t = i
      · rw [e, fset_s, @if_neg _ (Classical.propDecidable _) (fun y => hov y.2.symm)]
        exact (@if_pos _ (Classical.propDecidable _) ⟨List.mem_cons_self .., c⟩ _ _ _).symm
      · rw [fset_n e]
        by_cases c2 : t ∈ L ∧ F t = o
        · rw [@if_pos _ (Classical.propDecidable _) c2]
          exact (@if_pos _ (Classical.propDecidable _) ⟨List.mem_cons_of_mem _ c2.1, c2.2⟩ _ _ _).symm
        · rw [@if_neg _ (Classical.propDecidable _) c2]
          exact (@if_neg _ (Classical.propDecidable _) (fun y => c2 ⟨(List.mem_cons.mp y.1).resolve_left e, y.2⟩) _ _ _).symm
    · rw [if_neg c]
      by_cases c2 : t ∈ L ∧ F t = o
      · rw [@if_pos _ (Classical.propDecidable _) c2]
        exact (@if_pos _ (Classical.propDecidable _) ⟨List.mem_cons_of_mem _ c2.1, c2.2⟩ _ _ _).symm
      · rw [@if_neg _ (Classical.propDecidable _) c2]
        refine (@if_neg _ (Classical.propDecidable _) (fun y => c2 ⟨(List.mem_cons.mp y.1).resolve_left (fun e => ?_), y.2⟩) _ _ _).symm
        rw [e] at y
        exact c y.2
/-- the origin: what lies ahead of it is own -/
theorem orig_sp : ∀ (L : List Nat) (v : Int32) (o : Nat), orig P v L = some o → ∃ pre post, L = pre ++ o :: post ∧ (∀ x, x ∈ pre → P_owner P x = v) ∧ ¬ P_owner P o = v := by
  intro L
  induction L with
  | nil => intro v o h; cases h
  | cons i L ih =>
    intro v o h
    by_cases c : P_owner P i = v
    · rw [orig_t c] at h
      obtain ⟨pre, post, e1, e2, e3⟩ := ih v o h
      refine ⟨i :: pre, post, by rw [e1]; rfl, fun x hx => ?_, e3⟩
      rcases List.mem_cons.mp hx with z | z
      · rw [z]; exact c
      · exact e2 x z
    · rw [orig_f c] at h
      cases h
      exact ⟨[], L, rfl, fun x hx => absurd hx List.not_mem_nil, c⟩
theorem Ch.sfx : ∀ (A : List Nat) (y : Int32) (m : Nat) (C : List Nat), Ch P y (A ++ m :: C) → Ch P (nI m) (m :: C) := by
  intro A
  induction A with
  | nil => intro y m C hc; exact ⟨rfl, hc.2.1, hc.2.2⟩
  | cons a A ihA => intro y m C hc; exact ihA _ m C hc.2.2
/-- next below on a chain -/
theorem Ch.nxt {L : List Nat} {y : Int32} {n s : Nat} (hc : Ch P y L) (hn : n ∈ L) (hs : s < 20) (e : P_prev P n = nI s) : ∃ A C, L = A ++ n :: s :: C := by
  obtain ⟨A, C, e1⟩ := List.append_of_mem hn
  rw [e1] at hc
  have h1 := (Ch.sfx A y n C hc).2.2
  rw [e] at h1
  cases C with
  | nil =>
    have e0 : nI s = -1 := h1
    exact absurd e0 (m1_ne s (by omega))
  | cons i C =>
    have ei : i = s := nIe (by have := h1.2.1; omega) (by omega) h1.1.symm
    rw [ei] at e1
    exact ⟨A, C, e1⟩
/-- ahead of a place of a chain -/
theorem Ch.ahead : ∀ (A : List Nat) (y : Int32) (s : Nat) (C : List Nat), Ch P y (A ++ s :: C) → (A = [] ∧ y = nI s) ∨ ∃ A' n, A = A' ++ [n] ∧ P_prev P n = nI s := by
  intro A
  induction A with
  | nil => intro y s C hc; exact Or.inl ⟨rfl, hc.1⟩
  | cons a A ih =>
    intro y s C hc
    right
    rcases ih _ s C hc.2.2 with ⟨e1, e2⟩ | ⟨A', n, e1, e2⟩
    · rw [e1]
      exact ⟨[], a, rfl, e2⟩
    · rw [e1]
      exact ⟨a :: A', n, rfl, e2⟩
theorem nd_split {A A' C C' : List Nat} {s : Nat} (hn : (A ++ s :: C).Nodup) (e : A ++ s :: C = A' ++ s :: C') : A = A' := by
  induction A generalizing A' with
  | nil =>
    cases A' with
    | nil => rfl
    | cons a A' =>
      exfalso
      have e1 : s = a ∧ C = A' ++ s :: C' := by
        have := e
        simp only [List.nil_append, List.cons_append, List.cons.injEq] at this
        exact this
      have : s ∉ C := (List.nodup_cons.mp hn).1
      exact this (by rw [e1.2]; exact List.mem_append_right _ (List.mem_cons_self ..))
  | cons a A ih =>
    cases A' with
    | nil =>
      exfalso
      have e1 : a = s ∧ A ++ s :: C = C' := by
        have := e
        simp only [List.nil_append, List.cons_append, List.cons.injEq] at this
        exact this
      have : a ∉ A ++ s :: C := (List.nodup_cons.mp hn).1
      exact this (by rw [e1.1]; exact List.mem_append_right _ (List.mem_cons_self ..))
    | cons a' A' =>
      have e1 : a = a' ∧ A ++ s :: C = A' ++ s :: C' := by
        have := e
        simp only [List.cons_append, List.cons.injEq] at this
        exact this
      rw [e1.1, ih (List.nodup_cons.mp hn).2 e1.2]
theorem law_promote (h : GI P D B) {i : Int32} : GI (o_promote P (chl P i.toNatClampNeg) i).2 D B := by
  unfold o_promote
  by_cases c : ask P i 0 = 0
  · rw [if_pos c]
    obtain ⟨f, hf, rfl, hk0⟩ := (ask_0 (by decide)).mp c
    have hk := (uKd_0 _).mp hk0
    rw [nI_clamp (by omega)]
    have hC := h.ch hf (Or.inl hk)
    have hcs := h.pi.cs hf (Or.inl hk) hC
    have hnd := h.chd hcs hC
    cases eo : orig P (nI f) (chl P f) with
    | none => exact h
    | some o =>
      obtain ⟨pre, post, e1, e2, e3⟩ := orig_sp _ _ o eo
      have ho : o ∈ chl P f := origX_mem _ _ o eo
      obtain ⟨ho20, hos⟩ := hcs o ho
      obtain ⟨g0, hg0, eg0, hkg0⟩ := h.pi.o ho20 hos
      have hov : ¬ P_owner P o = nI f := e3
      have hat : ∀ t, owS (P_owner P o) (nI f) (chl P f) (P_owner P) t = @ite Int32 (t ∈ chl P f ∧ P_owner P t = P_owner P o) (Classical.propDecidable _) (nI f) (P_owner P t) := fun t => owS_at hov t _ _
      show GI (P_owner_ P (owS (P_owner P o) (nI f) (chl P f) (P_owner P))) D B
      generalize owS (P_owner P o) (nI f) (chl P f) (P_owner P) = F at hat
      have at1 : ∀ t, t ∈ chl P f → P_owner P t = P_owner P o → F t = nI f := fun t h1 h2 => (hat t).trans (@if_pos _ (Classical.propDecidable _) ⟨h1, h2⟩ _ _ _)
      have at2 : ∀ t, ¬ (t ∈ chl P f ∧ P_owner P t = P_owner P o) → F t = P_owner P t := fun t h1 => (hat t).trans (@if_neg _ (Classical.propDecidable _) h1 _ _ _)
      have hOK : OwOK P F := by
        intro t ht hs
        by_cases c : t ∈ chl P f ∧ P_owner P t = P_owner P o
        · exact ⟨f, hf, at1 t c.1 c.2, hk⟩
        · rw [at2 t c]
          exact h.pi.o ht hs
      refine ⟨h.pi.ow hOK, fun t ht => ?_, h.j3, h.j4, h.j5, h.j6, h.j7, h.j8, h.j9, h.j10, h.j11, h.j12, h.j13, ?_, h.j15, h.dk⟩
      · obtain ⟨w1, w2, w3, w4⟩ := h.tq t ht
        refine ⟨w1, w2, fun y => ?_, w4⟩
        have y' : ¬ sK (P_kind P t) := y
        show P_kind P t = -1 ∨ F t = -1
        rw [at2 t (fun z => y' (hcs t z.1).2)]
        exact w3 y'
      · intro s g hs hks hg e
        have hks' : sK (P_kind P s) := hks
        have e' : F s = nI g := e
        show ∃ n, n < 20 ∧ hK (P_kind P n) ∧ P_prev P n = nI s ∧ (n = g ∨ (sK (P_kind P n) ∧ F n = nI g))
        by_cases cA : s ∈ chl P f ∧ P_owner P s = P_owner P o
        · have efg : f = g := nIe (by omega) (by omega) ((at1 s cA.1 cA.2).symm.trans e')
          rw [← efg]
          obtain ⟨A, C, eA⟩ := List.append_of_mem cA.1
          have hC2 := hC
          rw [eA] at hC2
          rcases Ch.ahead A _ s C hC2 with ⟨-, y⟩ | ⟨A', n, eA', en⟩
          · exact ⟨f, hf, Or.inl hk, y, Or.inl rfl⟩
          · have hn : n ∈ chl P f := by
              rw [eA, eA']
              simp
            obtain ⟨hn20, hns⟩ := hcs n hn
            refine ⟨n, hn20, Or.inr hns, en, Or.inr ⟨hns, ?_⟩⟩
            by_cases co : P_owner P n = P_owner P o
            · exact at1 n hn co
            · rw [at2 n (fun y => co y.2)]
              refine Classical.byContradiction (fun cn => ?_)
              -- n lies behind the origin
              obtain ⟨E1, E2, eE⟩ := Ch.nxt hC hn hs en
              have hsplit : chl P f = (pre ++ o :: post) := e1
              have nin : n ∈ post := by
                have : n ∈ pre ++ o :: post := by rw [← e1]; exact hn
                rcases List.mem_append.mp this with y | y
                · exact absurd (e2 n y) cn
                · rcases List.mem_cons.mp y with z | z
                  · rw [z] at co
                    exact absurd rfl co
                  · exact z
              have hCf := hC
              rw [e1] at hCf
              have hCo := Ch.sfx pre _ o post hCf
              -- the chain of the old owner
              have hg0C := h.ch hg0 (Or.inl hkg0)
              have hg0cs := h.pi.cs hg0 (Or.inl hkg0) hg0C
              have hg0nd := h.chd hg0cs hg0C
              obtain ⟨po, qo, p1, p2⟩ := h.own hg0 hkg0 (tmI P - mkI P o).toNat o ho20 hos eg0 (by omega)
              obtain ⟨ps, qs, p3, p4⟩ := h.own hg0 hkg0 (tmI P - mkI P s).toNat s hs hks' (cA.2.trans eg0) (by omega)
              have hCo2 := hg0C
              rw [p1] at hCo2
              have hCo3 := Ch.sfx po _ o qo hCo2
              have eqq : o :: post = o :: qo := Ch.un _ _ _ hCo hCo3
              have epq : post = qo := by
                have := eqq
                simp only [List.cons.injEq, true_and] at this
                exact this
              have nin2 : n ∈ qo := by rw [← epq]; exact nin
              have hng0 : n ∈ chl P g0 := by
                rw [p1]
                exact List.mem_append_right _ (List.mem_cons_of_mem _ nin2)
              obtain ⟨R1, R2, eR⟩ := Ch.nxt hg0C hng0 hs en
              have eR' : chl P g0 = (R1 ++ [n]) ++ s :: R2 := by
                rw [eR]
                simp
              have : R1 ++ [n] = ps := nd_split (C := R2) (C' := qs) (s := s) (by rw [← eR']; exact hg0nd) (by rw [← eR', p3])
              have hnps : n ∈ ps := by
                rw [← this]
                simp
              exact co ((p4 n hnps).trans eg0.symm)
        · have es : F s = P_owner P s := at2 s cA
          rw [es] at e'
          obtain ⟨n, hn, hkn, en, w⟩ := h.j14 s g hs hks' hg e'
          refine ⟨n, hn, hkn, en, ?_⟩
          rcases w with w | ⟨w1, w2⟩
          · exact Or.inl w
          · refine Or.inr ⟨w1, ?_⟩
            rw [at2 n (fun y => cA ?_)]
            · exact w2
            · obtain ⟨E1, E2, eE⟩ := Ch.nxt hC y.1 hs en
              refine ⟨by rw [eE]; simp, ?_⟩
              rw [e', ← y.2, w2]
  · rw [if_neg c]
    exact h
end GP
