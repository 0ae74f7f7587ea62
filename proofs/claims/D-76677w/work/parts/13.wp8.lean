/-! ===== THE WP LAYER 8: writes go on; comparisons of longs; rows held as anything ===== -/
theorem pf_mono {w : aW} {a k : Nat} {cs : List Nat} {v : aV} {P Q : aW → Prop} (h : pf w a cs k v P) (hk : ∀ w', P w' → Q w') : pf w a cs k v Q := by
  obtain ⟨ci, fs, h1, h2, h3, h4⟩ := h
  exact ⟨ci, fs, h1, h2, h3, hk _ h4⟩
theorem pI_mono {w : aW} {a : Nat} {i x : Int32} {P Q : aW → Prop} (h : pI w a i x P) (hk : ∀ w', P w' → Q w') : pI w a i x Q := by
  obtain ⟨N, f, h1, h2, h3⟩ := h
  exact ⟨N, f, h1, h2, hk _ h3⟩
theorem pL_mono {w : aW} {a : Nat} {i : Int32} {x : Int64} {P Q : aW → Prop} (h : pL w a i x P) (hk : ∀ w', P w' → Q w') : pL w a i x Q := by
  obtain ⟨N, f, h1, h2, h3⟩ := h
  exact ⟨N, f, h1, h2, hk _ h3⟩
theorem pR_mono {w : aW} {a t : Nat} {i : Int32} {x : Option Nat} {P Q : aW → Prop} (h : pR w a t i x P) (hk : ∀ w', P w' → Q w') : pR w a t i x Q := by
  obtain ⟨N, f, h1, h2, h3⟩ := h
  exact ⟨N, f, h1, h2, hk _ h3⟩
theorem lgc_eq {x y : Int64} : lg_cmp x y = 0 ↔ x = y := by
  unfold lg_cmp
  by_cases h : x > y
  · rw [if_pos h]
    constructor
    · intro e
      exact absurd e (by decide)
    · intro e
      subst e
      exact absurd h (fun z => Int64.lt_irrefl z)
  · rw [if_neg h]
    by_cases h2 : x = y
    · simp [h2]
    · rw [if_neg h2]
      constructor
      · intro e
        exact absurd e (by decide)
      · intro e
        exact absurd e h2
theorem lgc_lt {x y : Int64} : lg_cmp x y < 0 ↔ x < y := by
  unfold lg_cmp
  by_cases h : x > y
  · rw [if_pos h]
    constructor
    · intro e
      exact absurd e (by decide)
    · intro e
      exact absurd (Int64.lt_trans h e) (fun z => Int64.lt_irrefl z)
  · rw [if_neg h]
    by_cases h2 : x = y
    · rw [if_pos h2]
      constructor
      · intro e
        exact absurd e (by decide)
      · intro e
        subst h2
        exact absurd e (fun z => Int64.lt_irrefl z)
    · rw [if_neg h2]
      constructor
      · intro _
        rw [gt_iff_lt, Int64.lt_iff_toInt_lt] at h
        rw [Int64.lt_iff_toInt_lt]
        have : x.toInt ≠ y.toInt := fun e => h2 (Int64.toInt_inj.mp e)
        omega
      · intro _
        decide
theorem lgc_gt {x y : Int64} : 0 < lg_cmp x y ↔ y < x := by
  unfold lg_cmp
  by_cases h : x > y
  · rw [if_pos h]
    exact ⟨fun _ => h, fun _ => by decide⟩
  · rw [if_neg h]
    constructor
    · intro e
      exfalso
      by_cases h2 : x = y
      · rw [if_pos h2] at e
        exact absurd e (by decide)
      · rw [if_neg h2] at e
        exact absurd e (by decide)
    · intro e
      exact absurd e h
theorem lgc_ne {x y : Int64} : ¬ lg_cmp x y = 0 ↔ ¬ x = y := not_congr lgc_eq
theorem lgc_ge {x y : Int64} : 0 ≤ lg_cmp x y ↔ ¬ x < y := by
  rw [← lgc_lt, Int32.le_iff_toInt_le, Int32.lt_iff_toInt_lt]
  omega
theorem lgc_le {x y : Int64} : lg_cmp x y ≤ 0 ↔ ¬ y < x := by
  rw [← lgc_gt, Int32.le_iff_toInt_le, Int32.lt_iff_toInt_lt]
  omega
section WP8
variable {K : aK} {rc rs : Nat} {QR : Option aV → aW → Prop} {QX : String → aW → Prop} {pc : Nat} {ls : List (Nat × aV)} {st : List aV} {w : aW}
theorem wp_ckrY {n idx a t : Nat} {nm : String} (hd : decode (kC K) pc = .ok (.checkcast idx, 3)) (hn : pc + 3 = n) (hl0 : Cond.classLink (kY K).cls idx nm ∈ lw_all) (hk : ∀ c, kd c ∈ [20 + t] → aRow c → aKind c ∧ aCast (aName c) nm) (h : ckr w a t) (k : wp K rc rs QR QX n ls (vR (some a) :: st) w) : wp K rc rs QR QX pc ls (vR (some a) :: st) w := by
  obtain ⟨c, h1, h2⟩ := ckr_ck h hk
  exact wp_castY hd hn hl0 h1 h2.1 h2.2 k
theorem wp_ckrX {idx a t rc' rs' : Nat} {nm : String} (hd : decode (kC K) pc = .ok (.checkcast idx, 3)) (hl0 : Cond.classLink (kY K).cls idx nm ∈ lw_all) (hk : ∀ c, kd c ∈ [20 + t] → aRow c → aKind c ∧ (aName c, nm) ∈ aNC ∧ (packageOf (aName c) = "" ∧ (dotted (aName c)).toList.length ≤ 22)) (hB : packageOf nm = "" ∧ (dotted nm).toList.length ≤ 22) (h : ckr w a t)
    (h1 : rc' + 3 ≤ rc) (h2 : rs' + 950 ≤ rs) (hr : ((vR (some a) :: st).map vcat).sum ≤ 8) (k : wpx K rc' rs' QR QX pc ls "java/lang/ClassCastException" w) : wp K rc rs QR QX pc ls (vR (some a) :: st) w := by
  obtain ⟨c, g1, q1, q2, q3⟩ := ckr_ck h hk
  exact wp_castX hd hl0 g1 q1 q2 q3 hB h1 h2 hr k
theorem wp_cirY {n idx a t : Nat} {nm : String} (hd : decode (kC K) pc = .ok (.instanceof idx, 3)) (hn : pc + 3 = n) (hl0 : Cond.classLink (kY K).cls idx nm ∈ lw_all) (hk : ∀ c, kd c ∈ [20 + t] → aRow c → aKind c ∧ aCast (aName c) nm) (h : ckr w a t) (k : wp K rc rs QR QX n ls (vI 1 :: st) w) : wp K rc rs QR QX pc ls (vR (some a) :: st) w := by
  obtain ⟨c, h1, h2⟩ := ckr_ck h hk
  exact wp_instY hd hn hl0 h1 h2.1 h2.2 k
theorem wp_cirX {n idx a t : Nat} {nm : String} (hd : decode (kC K) pc = .ok (.instanceof idx, 3)) (hn : pc + 3 = n) (hl0 : Cond.classLink (kY K).cls idx nm ∈ lw_all) (hk : ∀ c, kd c ∈ [20 + t] → aRow c → aKind c ∧ (aName c, nm) ∈ aNC ∧ (packageOf (aName c) = "" ∧ (dotted (aName c)).toList.length ≤ 22)) (h : ckr w a t) (k : wp K rc rs QR QX n ls (vI 0 :: st) w) : wp K rc rs QR QX pc ls (vR (some a) :: st) w := by
  obtain ⟨c, g1, q1, q2, q3⟩ := ckr_ck h hk
  exact wp_instX hd hn hl0 g1 q1 q2 k
end WP8
theorem opt_c (r : Option Nat) : r = none ∨ ∃ a : Nat, r = some a := by
  cases r with
  | none => exact Or.inl rfl
  | some a => exact Or.inr ⟨a, rfl⟩
