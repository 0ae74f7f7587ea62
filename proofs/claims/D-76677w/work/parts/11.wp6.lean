/-! ===== THE WP LAYER 6: Math.min, Math.max; rows of rows ===== -/
section WP6
variable {K : aK} {rc rs : Nat} {QR : Option aV → aW → Prop} {QX : String → aW → Prop} {pc : Nat} {ls : List (Nat × aV)} {st : List aV} {w : aW}
theorem wp_min {n idx : Nat} {x y : Int32} (hd : decode (kC K) pc = .ok (.invokestatic idx, 3)) (hn : pc + 3 = n) (g1 : Cond.methodLink (kY K).cls idx Lib.Math.min.name ∈ lw_all) (g2 : Cond.static Lib.Math.min.name ∈ lw_all) (g3 : Cond.initialized "java/lang/Math" ∈ lw_all) (g4 : Cond.code Lib.Math.min.name Lib.Math.min.code 2 (some .int) ∈ lw_all) (hr : (st.map vcat).sum ≤ 8) (k : wp K rc rs QR QX n ls (vI (if y < x then y else x) :: st) w) : wp K rc rs QR QX pc ls (vI y :: vI x :: st) w := by
  subst hn
  intro p l e s m args below meth c G ws0 sz mc ms C H locs ws lsA cells slots hL hP hD hS hl hc hs
  have hts := C.2.2.2.1
  have h8 := a_cats hr
  exact va_mmin C.1 C.2.1 (C.2.2.2.2.2.2.1.trans hl.1.symm) C.2.2.2.2.1 (hts _ g1) (hts _ g2) (hts _ g3) (hts _ g4) (by show 1 ≤ kD K + 10; omega) (by show ((st.map vv).map fun v => v.category).sum + 13 ≤ 10400 + 60 * kD K; omega) (by show cells ≤ mc; omega) (by show slots ≤ ms; omega) hd (k p l e s m args below meth c G ws0 sz mc ms C H locs ws lsA cells slots hL hP hD hS hl hc hs)
theorem wp_max {n idx : Nat} {x y : Int64} (hd : decode (kC K) pc = .ok (.invokestatic idx, 3)) (hn : pc + 3 = n) (g1 : Cond.methodLink (kY K).cls idx Lib.MathLoose.max_long.x ∈ lw_all) (g2 : Cond.static Lib.MathLoose.max_long.x ∈ lw_all) (g3 : Cond.initialized "java/lang/Math" ∈ lw_all) (g4 : Cond.code Lib.MathLoose.max_long.x Lib.MathLoose.max_long.code 4 (some .long) ∈ lw_all) (hr : (st.map vcat).sum ≤ 8) (k : wp K rc rs QR QX n ls (vL (if y < x then x else y) :: st) w) : wp K rc rs QR QX pc ls (vL y :: vL x :: st) w := by
  subst hn
  intro p l e s m args below meth c G ws0 sz mc ms C H locs ws lsA cells slots hL hP hD hS hl hc hs
  have hts := C.2.2.2.1
  have h8 := a_cats hr
  exact va_mmax_long C.1 C.2.1 (C.2.2.2.2.2.2.1.trans hl.1.symm) C.2.2.2.2.1 (hts _ g1) (hts _ g2) (hts _ g3) (hts _ g4) (by show 1 ≤ kD K + 10; omega) (by show ((st.map vv).map fun v => v.category).sum + 15 ≤ 10400 + 60 * kD K; omega) (by show cells ≤ mc; omega) (by show slots ≤ ms; omega) hd (k p l e s m args below meth c G ws0 sz mc ms C H locs ws lsA cells slots hL hP hD hS hl hc hs)
/-- the world with a row of N rows of M ints at a -/
def aMulti (w : aW) (a N M : Nat) : aW := fun q => if q = a then some (.inl (6, N, .inr (.inr (.inr (.inr (fun i => if i < N then some (a + 1 + i) else none)))))) else if a < q ∧ q ≤ a + N then some (.inl (0, M, .inl (fun _ => 0))) else w q
theorem a_outer (G : aG) (N h0 : Nat) : Jvm.Free.Multi.outerC (G.2 6) N h0 N = vp_cell (G.2 6) (N, .inr (.inr (.inr (.inr (fun i => if i < N then some (h0 + 1 + i) else none))))) := by
  have key : ∀ i, i ≤ N → Jvm.Free.Multi.outerC (G.2 6) N h0 i = arrV (G.2 6) N (fun j => if j < i then .ref (h0 + 1 + j) else .null) := by
    intro i
    induction i with
    | zero =>
      intro _
      show ({ cls := G.2 6, slots := Array.replicate N .null, vm := .none } : Cell) = _
      rw [arrV_new]
      congr 1
    | succ i ih =>
      intro hi
      show (Jvm.Free.Multi.outerC (G.2 6) N h0 i).setSlot i (.ref (h0 + 1 + i)) = _
      rw [ih (by omega), arrV_store]
      congr 1
      funext j
      show (if j = i then Value.ref (h0 + 1 + i) else if j < i then Value.ref (h0 + 1 + j) else Value.null) = if j < i + 1 then Value.ref (h0 + 1 + j) else Value.null
      by_cases h : j = i
      · subst h
        simp
      · rw [if_neg h]
        by_cases h2 : j < i
        · rw [if_pos h2, if_pos (by omega)]
        · rw [if_neg h2, if_neg (by omega)]
  rw [key N (Nat.le_refl _)]
  show _ = arrV (G.2 6) N (fun j => va_rf (if j < N then some (h0 + 1 + j) else none))
  congr 1
  funext j
  by_cases h : j < N
  · rw [if_pos h, if_pos h]
    rfl
  · rw [if_neg h, if_neg h]
    rfl
theorem wp_multi {n idx N M rc' rs' : Nat} {x y : Int32} (hd : decode (kC K) pc = .ok (.multianewarray idx 2, 4)) (hn : pc + 4 = n) (g1 : Cond.classLink (kY K).cls idx "[[I" ∈ lw_all) (g3 : Cond.arrayClass FieldType.int ∈ lw_all) (hx : ¬ x < 0) (hy : ¬ y < 0) (hN : x.toNatClampNeg = N) (hM : y.toNatClampNeg = M) (hb : N ≤ 1000) (hb2 : M ≤ 1000) (h1 : rc' + (1 + N) ≤ rc) (h2 : rs' + (N + N * M) ≤ rs)
    (k : ∀ a : Nat, (∀ q, a ≤ q → w q = none) → wp K rc' rs' QR QX n ls (vR (some a) :: st) (aMulti w a N M)) : wp K rc rs QR QX pc ls (vI y :: vI x :: st) w := by
  subst hn
  subst hN
  subst hM
  intro p l e s m args below meth c G ws0 sz mc ms C H locs ws lsA cells slots hL hP hD hS hl hc hs
  have hts := C.2.2.2.1
  have hKs := C.2.2.2.2.2.2.2.2.2.1
  intro T hT X
  obtain ⟨vm₁, cA, comp, hW, hfA, hfC, -, -, X1, step⟩ := X.multianewarray2F (ty := .int) C.1 C.2.2.2.2.1 (hts _ g1) (C.2.2.2.2.2.2.2.2.2.2.1.2.2.1 (.array .int) (by decide)) (hts _ g3) (g := F0 m pc lsA ((vI y :: vI x :: st).map vv)) rfl (by rw [C.2.1]; exact hd) rfl hx hy (by omega) (by show _ * 4 ≤ _; omega) (by omega) (by decide) (by decide) (by show cells + _ ≤ mc; omega) (by show slots + _ ≤ ms; omega)
  have e1 : cA = G.2 6 := by
    have h6 := aty_name hKs (t := 6) (by decide)
    exact Option.some.inj (hfA.symm.trans h6)
  have e2 : comp = G.2 0 := by
    have h6 := aty_name hKs (t := 0) (by decide)
    exact Option.some.inj (hfC.symm.trans h6)
  subst e1
  subst e2
  obtain ⟨f1, f2, -, -⟩ := Jvm.Free.Multi.fill_facts (T.setVm vm₁) (G.2 6) (G.2 0) x.toNatClampNeg y.toNatClampNeg (defaultValue .int) x.toNatClampNeg
  have f3 : ∀ a, a < (T.setVm vm₁).heap.size → _ := fun a ha => Jvm.Free.Multi.fill_old (T.setVm vm₁) (G.2 6) (G.2 0) x.toNatClampNeg y.toNatClampNeg (defaultValue .int) (a := a) ha x.toNatClampNeg
  have f4 := Jvm.Free.Multi.fill_inner (T.setVm vm₁) (G.2 6) (G.2 0) x.toNatClampNeg y.toNatClampNeg (defaultValue .int) x.toNatClampNeg
  have hTh : (T.setVm vm₁).heap = H := hT
  rw [hTh] at f1 f2 f3 f4
  generalize (Jvm.Free.Multi.fill (T.setVm vm₁) (G.2 6) (G.2 0) x.toNatClampNeg y.toNatClampNeg (defaultValue .int) x.toNatClampNeg) = T1 at f1 f2 f3 f4 X1 step
  rw [a_outer] at f2
  have hin : Jvm.Free.Multi.innerC (G.2 0) y.toNatClampNeg (defaultValue .int) = vp_cell (G.2 0) (y.toNatClampNeg, .inl (fun _ => 0)) := by
    show ({ cls := G.2 0, slots := Array.replicate y.toNatClampNeg (defaultValue .int), vm := .none } : Cell) = arrV (G.2 0) y.toNatClampNeg (fun _ => .int 0)
    rw [arrV_new]
    rfl
  rw [hin] at f4
  have hfree : ∀ q, H.size ≤ q → w q = none := by
    intro q hq
    cases hw : w q with
    | none => rfl
    | some c0 =>
      obtain ⟨j, hj⟩ := hL q c0 hw
      have hlt : q < H.size := (hP j _ hj).lt
      omega
  have hlen : ∀ (j : Nat) (q : Nat × va_E), (ws ++ ((H.size, acv G (.inl (6, x.toNatClampNeg, .inr (.inr (.inr (.inr (fun i => if i < x.toNatClampNeg then some (H.size + 1 + i) else none))))))) :: (List.range x.toNatClampNeg).map (fun i => (H.size + 1 + i, acv G (.inl (0, y.toNatClampNeg, .inl (fun _ => 0)))))))[j]? = some q →
      (ws[j]? = some q ∧ q.1 < H.size) ∨ (j = ws.length ∧ q = (H.size, acv G (.inl (6, x.toNatClampNeg, .inr (.inr (.inr (.inr (fun i => if i < x.toNatClampNeg then some (H.size + 1 + i) else none)))))))) ∨ (∃ i, i < x.toNatClampNeg ∧ j = ws.length + 1 + i ∧ q = (H.size + 1 + i, acv G (.inl (0, y.toNatClampNeg, .inl (fun _ => 0))))) := by
    intro j q hj
    by_cases hjl : j < ws.length
    · rw [List.getElem?_append_left hjl] at hj
      exact Or.inl ⟨hj, (hP j q hj).lt⟩
    · rw [List.getElem?_append_right (by omega)] at hj
      obtain ⟨z, hz⟩ : ∃ z, j = ws.length + z := ⟨j - ws.length, by omega⟩
      subst hz
      rw [Nat.add_sub_cancel_left] at hj
      cases z with
      | zero =>
        rw [List.getElem?_cons_zero] at hj
        cases hj
        exact Or.inr (Or.inl ⟨rfl, rfl⟩)
      | succ z =>
        rw [List.getElem?_cons_succ, List.getElem?_map] at hj
        by_cases hzl : z < x.toNatClampNeg
        · rw [List.getElem?_range hzl] at hj
          cases hj
          exact Or.inr (Or.inr ⟨z, hzl, by omega, rfl⟩)
        · rw [List.getElem?_eq_none (by simp; omega)] at hj
          cases hj
  have hP1 : va_P G.1 acl (ws ++ ((H.size, acv G (.inl (6, x.toNatClampNeg, .inr (.inr (.inr (.inr (fun i => if i < x.toNatClampNeg then some (H.size + 1 + i) else none))))))) :: (List.range x.toNatClampNeg).map (fun i => (H.size + 1 + i, acv G (.inl (0, y.toNatClampNeg, .inl (fun _ => 0))))))) T1.heap := by
    intro j q hj
    rcases hlen j q hj with ⟨h, hl9⟩ | ⟨-, rfl⟩ | ⟨i, hi, -, rfl⟩
    · exact (hP j q h).kept (f3 q.1 hl9)
    · exact f2
    · exact f4 i hi
  have hAn := a_new (ws0 := ws0) C.2.2.2.2.2.2.2.2.2.2.2.1
  have hD1 : va_D (va_A ws0 sz) (ws ++ ((H.size, acv G (.inl (6, x.toNatClampNeg, .inr (.inr (.inr (.inr (fun i => if i < x.toNatClampNeg then some (H.size + 1 + i) else none))))))) :: (List.range x.toNatClampNeg).map (fun i => (H.size + 1 + i, acv G (.inl (0, y.toNatClampNeg, .inl (fun _ => 0))))))) := by
    refine ⟨fun i j q1 q2 hi hj he => ?_, fun j q hj => ?_⟩
    · rcases hlen i q1 hi with ⟨h, hl9⟩ | ⟨h, rfl⟩ | ⟨z, hz, h, rfl⟩ <;> rcases hlen j q2 hj with ⟨g, gl9⟩ | ⟨g, rfl⟩ | ⟨u, hu, g, rfl⟩
      · exact hD.1 i j q1 q2 h g he
      · dsimp only at he
        omega
      · dsimp only at he
        omega
      · dsimp only at he
        omega
      · omega
      · dsimp only at he
        omega
      · dsimp only at he
        omega
      · dsimp only at he
        omega
      · dsimp only at he
        omega
    · rcases hlen j q hj with ⟨h, hl9⟩ | ⟨h, rfl⟩ | ⟨z, hz, h, rfl⟩
      · exact hD.2 j q h
      · exact hAn _ hS.1
      · exact hAn _ (Nat.le_trans hS.1 (by show H.size ≤ H.size + 1 + z; omega))
  have hL1 : LW G (aMulti w H.size x.toNatClampNeg y.toNatClampNeg) (ws ++ ((H.size, acv G (.inl (6, x.toNatClampNeg, .inr (.inr (.inr (.inr (fun i => if i < x.toNatClampNeg then some (H.size + 1 + i) else none))))))) :: (List.range x.toNatClampNeg).map (fun i => (H.size + 1 + i, acv G (.inl (0, y.toNatClampNeg, .inl (fun _ => 0))))))) := by
    intro q d hq
    unfold aMulti at hq
    split at hq
    · rename_i h
      cases hq
      subst h
      exact ⟨ws.length, by simp⟩
    · split at hq
      · rename_i h0 h
        cases hq
        obtain ⟨z, hz⟩ : ∃ z, q = H.size + 1 + z := ⟨q - H.size - 1, by omega⟩
        subst hz
        refine ⟨ws.length + (z + 1), ?_⟩
        rw [List.getElem?_append_right (by omega), Nat.add_sub_cancel_left, List.getElem?_cons_succ, List.getElem?_map, List.getElem?_range (by omega)]
        rfl
      · obtain ⟨j, hj⟩ := hL q d hq
        exact ⟨j, by rw [List.getElem?_append_left (List.getElem?_eq_some_iff.mp hj).1]; exact hj⟩
  have hS1 : va_S (va_A ws0 sz) s.heap T1.heap locs := ⟨Nat.le_trans hS.1 (by rw [f1]; omega), fun q h1 h2 => by rw [f3 q (Nat.lt_of_lt_of_le h1 hS.1)]; exact hS.2.1 q h1 h2, hS.2.2⟩
  obtain ⟨t, a1, b1⟩ := k H.size hfree p l e s m args below meth c G ws0 sz mc ms C T1.heap locs _ lsA (cells + 1 + x.toNatClampNeg) (slots + x.toNatClampNeg + x.toNatClampNeg * y.toNatClampNeg) hL1 hP1 hD1 hS1 hl (by omega) (by omega) T1 rfl X1
  refine ⟨t, step t ?_, b1⟩
  have e5 : T.heap.size = H.size := by rw [hT]
  rw [e5]
  exact a1
end WP6
