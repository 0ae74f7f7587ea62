/-! ===== the pool: the most that can be freed; walked ===== -/
set_option maxRecDepth 100000
set_option maxHeartbeats 400000
theorem nI_sub {a b : Nat} (h : b ≤ a) : nI a - nI b = nI (a - b) := by
  have := nI_add (a - b) b
  rw [show a - b + b = a by omega] at this
  rw [← this, Int32.add_sub_cancel]
/-- own ones, the newest first -/
noncomputable def oW (P : PT) (v : Int32) : List Nat → List Nat
  | [] => []
  | i :: l => @ite (List Nat) (P_owner P i = v) (Classical.propDecidable _) (i :: oW P v l) []
theorem oW_t {P : PT} {v : Int32} {i : Nat} {l : List Nat} (h : P_owner P i = v) : oW P v (i :: l) = i :: oW P v l := @if_pos _ (Classical.propDecidable _) h _ _ _
theorem oW_f {P : PT} {v : Int32} {i : Nat} {l : List Nat} (h : ¬ P_owner P i = v) : oW P v (i :: l) = [] := @if_neg _ (Classical.propDecidable _) h _ _ _
def mx (l v : Int64) : Int64 := if v < l then l else v
def seg (W : List Nat) (i j : Nat) : List Nat := (W.drop i).take (j - i + 1)
noncomputable def mLp (P : PT) (D : DT) (W : List Nat) (m : Nat) (F : Nat → Nat → Int64) (i n : Nat) : Nat → Nat → Int64 → Int64
  | 0, _, c => c
  | k + 1, j, c => @ite Int64 (j < m ∧ j - i < n ∧ lsP P (gD W j)) (Classical.propDecidable _) (mLp P D W m F i n k (j + 1) (mx c (rgS P D (gD W j) (seg W i j) + F (j + 2) (n - (j - i + 1))))) c
noncomputable def mF (P : PT) (D : DT) (W : List Nat) (m : Nat) : Nat → Nat → Nat → Int64
  | 0, _, _ => 0
  | d + 1, i, n => if m ≤ i ∨ n = 0 then 0 else mLp P D W m (mF P D W m d) i n (m - i) i (mF P D W m d (i + 1) n)
theorem mLp_t {P : PT} {D : DT} {W : List Nat} {m : Nat} {F : Nat → Nat → Int64} {i n k j : Nat} {c : Int64} (h : j < m ∧ j - i < n ∧ lsP P (gD W j)) : mLp P D W m F i n (k + 1) j c = mLp P D W m F i n k (j + 1) (mx c (rgS P D (gD W j) (seg W i j) + F (j + 2) (n - (j - i + 1)))) := @if_pos _ (Classical.propDecidable _) h _ _ _
theorem mLp_f {P : PT} {D : DT} {W : List Nat} {m : Nat} {F : Nat → Nat → Int64} {i n k j : Nat} {c : Int64} (h : ¬ (j < m ∧ j - i < n ∧ lsP P (gD W j))) : mLp P D W m F i n (k + 1) j c = c := @if_neg _ (Classical.propDecidable _) h _ _ _
theorem upt_app : ∀ (A : List Nat) (q : Nat) (C : List Nat), ¬ q ∈ A → upt q (A ++ q :: C) = some (A ++ [q]) := by
  intro A
  induction A with
  | nil => intro q C _; exact upt_t
  | cons a A ih =>
    intro q C h
    show upt q (a :: (A ++ q :: C)) = _
    rw [upt_f (fun e => h (by rw [e]; exact List.mem_cons_self ..)), ih q C (fun y => h (List.mem_cons_of_mem _ y))]
    rfl
/-- a run of own ones, on the chain -/
theorem seg_upt {W C : List Nat} {i j : Nat} (hn : (W ++ C).Nodup) (hij : i ≤ j) (hj : j < W.length) : upt (gD W j) ((W ++ C).drop i) = some (seg W i j) := by
  have e1 : (W ++ C).drop i = (W.drop i).take (j - i) ++ gD W j :: (W.drop (j + 1) ++ C) := by
    rw [List.drop_append_of_le_length (by omega)]
    have e2 : W.drop i = (W.drop i).take (j - i) ++ gD W j :: W.drop (j + 1) := by
      rw [← List.take_append_drop (j - i) (W.drop i)]
      rw [List.take_append_of_le_length (by rw [List.length_take, List.length_drop]; omega), List.take_take, Nat.min_self, List.drop_drop, show i + (j - i) = j by omega, gD_drop W hj]
    rw [e2, List.append_assoc]
    congr 1
    rw [List.take_append_of_le_length (by rw [List.length_take, List.length_drop]; omega), List.take_take, Nat.min_self]
  have e3 : seg W i j = (W.drop i).take (j - i) ++ [gD W j] := by
    unfold seg
    have hl : j - i < (W.drop i).length := by rw [List.length_drop]; omega
    rw [take_s _ hl]
    congr 2
    unfold gD
    rw [List.getD_eq_getElem?_getD, List.getD_eq_getElem?_getD, List.getElem?_drop, show i + (j - i) = j by omega]
  rw [e1, e3]
  refine upt_app _ _ _ (fun y => ?_)
  have hnd : ((W ++ C).drop i).Nodup := hn.sublist (List.drop_sublist i _)
  rw [e1] at hnd
  exact (List.nodup_append.mp hnd).2.2 _ y _ (List.mem_cons_self ..) rfl
theorem Ch.drop {P : PT} : ∀ (L : List Nat) (y : Int32) (i : Nat) (h : i < L.length), Ch P y L → Ch P (nI (gD L i)) (L.drop i) := by
  intro L
  induction L with
  | nil => intro y i h; exact absurd h (Nat.not_lt_zero _)
  | cons a L ih =>
    intro y i h hc
    cases i with
    | zero => exact ⟨rfl, hc.2.1, hc.2.2⟩
    | succ i => exact ih _ i (by simp at h; omega) hc.2.2
theorem gD_app {W C : List Nat} {i : Nat} (h : i < W.length) : gD (W ++ C) i = gD W i := by
  unfold gD
  rw [List.getD_eq_getElem?_getD, List.getD_eq_getElem?_getD, List.getElem?_append_left h]
section XMo
variable {l : LT} {x : XT} {m : MT} {sc : Nat × (Nat → Int32)} {w : aW} {a : AT} {P : PT} {D : DT} {t u : Nat} {QR : Option aV → aW → Prop} {QX : String → aW → Prop} {rc rs : Nat}
theorem lp_gathers (hI : PI P) {f : Nat} (hf : f < 20) (hkf : hK (P_kind P f)) {W : List Nat} (h : ∀ x' w', V (l, x', m, sc) w' → XP x' a P D → XF x x' → (∀ k, k < W.length → X_own x' k = some (a.1 (gD W k))) → QR (some (vI (nI W.length))) w') : ∀ (L : List Nat) (y : Int32) (pre : List Nat) (x1 : XT) (w1 : aW), CS P L → Ch P y L → pre.length + L.length ≤ 20 → W = pre ++ oW P (nI f) L → V (l, x1, m, sc) w1 → XP x1 a P D → XF x x1 → (∀ k, k < pre.length → X_own x1 k = some (a.1 (gD pre k))) → wp KX0_gathers rc rs QR QX 7 [(0, vR (some (L_ad l 0))), (1, vR (some (a.1 f))), (2, vI (nI pre.length)), (3, vR (pO a y))] [] w1 := by
  intro L
  induction L with
  | nil =>
    intro y pre x1 w1 _ hy hlen hW h1 X1 K1 hm
    rw [hy.pO]
    have e : W = pre := by rw [hW]; exact List.append_nil pre
    subst e
    exact sg_X0_gathers_7 ⟨fun _ => h x1 w1 h1 X1 K1 hm, fun q e => (by cases e)⟩
  | cons i L ih =>
    intro y pre x1 w1 hcs hy hlen hW h1 X1 K1 hm
    rw [hy.pO]
    obtain ⟨hi, hs⟩ := hcs i (List.mem_cons_self ..)
    obtain ⟨o, o1, o2, o3, o4, o5⟩ := oO_eq X1 hI hi hs hf hkf
    refine sg_X0_gathers_7 ⟨fun e => (by cases e), fun q e => ?_⟩
    have e' : q = a.1 i := (Option.some.inj e).symm
    subst e'
    have hl2 : pre.length < 20 := by simp at hlen; omega
    refine ⟨_, o1 _ _ _ _ _ h1 (cI_s hs), fun c => ?_, fun c => ⟨_, h1.xf6, x_ck h1 X1 hi (cI_s hs), h1.xp_own (vp_in_nI hl2 (by decide)) (fun w2 h2 => ?_)⟩⟩
    · have e : W = pre := by
        rw [hW, oW_f (fun z => c (o5.mpr z))]
        exact List.append_nil pre
      subst e
      exact h x1 w1 h1 X1 K1 hm
    · have X2 : XP (X_own_ x1 (va_up (X_own x1) (nI pre.length).toNatClampNeg (some (a.1 i)))) a P D := X1
      refine ⟨_, x_prev h2 X2 hi (cI_s hs), ?_⟩
      rw [nI_1]
      have := ih (P_prev P i) (pre ++ [i]) _ w2 (fun j hj => hcs j (List.mem_cons_of_mem _ hj)) hy.2.2 (by simp at hlen ⊢; omega) (by rw [hW, oW_t (o5.mp c), List.append_assoc]; rfl) h2 X2 (K1.tr ⟨rfl, rfl, rfl, rfl, rfl, fun q r h => ⟨r, h, rfl, rfl, rfl, rfl, rfl, fun _ => rfl⟩, fun q v h => h⟩) (fun k hk => ?_)
      · rw [List.length_append] at this
        exact this
      · rw [List.length_append] at hk
        show (if k = (nI pre.length).toNatClampNeg then some (a.1 i) else X_own x1 k) = _
        rw [nI_clamp (by omega)]
        by_cases c2 : k = pre.length
        · rw [if_pos c2, c2]
          unfold gD
          rw [List.getD_eq_getElem?_getD, List.getElem?_append_right (Nat.le_refl _), Nat.sub_self]
          rfl
        · have hlt : k < pre.length := by simp at hk; omega
          rw [if_neg c2, hm k hlt, gD_app hlt]
theorem c_X0_gathers (hV : V (l, x, m, sc) w) (hX : XP x a P D) (hI : PI P) {f : Nat} (hf : f < 20) (hk : fK (P_kind P f)) {L : List Nat} (hc : Ch P (P_prev P f) L) (hlen : L.length ≤ 20) (h : ∀ x' w', V (l, x', m, sc) w' → XP x' a P D → XF x x' → (∀ k, k < (oW P (nI f) L).length → X_own x' k = some (a.1 (gD (oW P (nI f) L) k))) → QR (some (vI (nI (oW P (nI f) L).length))) w') : ct KX0_gathers 1 8 [vR (some (L_ad l 0)), vR (some (a.1 f))] w QR QX := by
  refine st_X0_gathers (sg_X0_gathers_0 ⟨fun e => (by cases e), fun q e => ?_⟩)
  cases e
  exact ⟨_, x_prev hV hX hf (cI_f hk), lp_gathers hI hf (Or.inl hk) h L _ [] x w (hI.cs hf (Or.inl hk) hc) hc (by simpa using hlen) rfl hV hX (XF.rf x) (fun k hk => absurd hk (Nat.not_lt_zero _))⟩
theorem c_X0_gathers_none (h : QX "java/lang/NullPointerException" w) : ct KX0_gathers 1 8 [vR (some (L_ad l 0)), vR none] w QR QX :=
  st_X0_gathers (sg_X0_gathers_0 ⟨fun _ => ⟨Nat.le_refl _, Nat.le_refl _, h⟩, fun q e => (by cases e)⟩)
/-- what the row of own ones is -/
def OwR (x : XT) (a : AT) (P : PT) (W C : List Nat) : Prop := (∀ k, k < W.length → X_own x k = some (a.1 (gD W k))) ∧ (W ++ C).Nodup ∧ CS P (W ++ C) ∧ ∃ y, Ch P y (W ++ C)
theorem x_own {W C : List Nat} (hV : V (l, x, m, sc) w) (hW : OwR x a P W C) (hl : W.length ≤ 20) {k : Nat} (hk : k < W.length) : gR w (L_ad l 5) 3 (nI k) (some (a.1 (gD W k))) := by
  have := hV.xg_own (i := nI k) (vp_in_nI (by omega) (by decide))
  rw [nI_clamp (by omega), hW.1 k hk] at this
  exact this
theorem OwR.at {W C : List Nat} (hW : OwR x a P W C) {k : Nat} (hk : k < W.length) : gD W k < 20 ∧ sK (P_kind P (gD W k)) := hW.2.2.1 _ (List.mem_append_left _ (gX_mem hk))
theorem mF_0 {W : List Nat} {M i n : Nat} (h : M ≤ i ∨ n = 0) : ∀ d, mF P D W M d i n = 0 := by
  intro d
  cases d with
  | zero => rfl
  | succ d => exact if_pos h
theorem lp_mostFrom (hV : V (l, x, m, sc) w) (hX : XP x a P D) (hI : PI P) (hQ : TQ P) (hB : DB P D) {W C : List Nat} (hW : OwR x a P W C) (hl : W.length ≤ 20) {M : Nat} (hM : M ≤ W.length) {d i n : Nat} (hi : i < M) (hn : n ≤ 8) (hd' : M - i ≤ d + 1) (IH : ∀ (i n : Nat) (QR : Option aV → aW → Prop) (QX : String → aW → Prop), M - i ≤ d → i ≤ 30 → n ≤ 8 → QR (some (vL (mF P D W M d i n))) w → ct (KX0_mostFrom d) 0 0 [vR (some (L_ad l 0)), vI (nI i), vI (nI M), vI (nI n)] w QR QX) : ∀ k j c, j + k = M → i ≤ j → QR (some (vL (mLp P D W M (mF P D W M d) i n k j c))) w → wp (KX0_mostFrom (d + 1)) rc rs QR QX 25 [(0, vR (some (L_ad l 0))), (1, vI (nI i)), (2, vI (nI M)), (3, vI (nI n)), (4, vL c), (6, vI (nI j))] [] w := by
  intro k
  induction k with
  | zero =>
    intro j c hj hij h
    exact sg_X0_mostFrom_25 ⟨fun _ => h, fun z => absurd (nI_le (by omega) (by omega)) z⟩
  | succ k ih =>
    intro j c hj hij h
    have hjW : j < W.length := by omega
    have hiW : i < W.length := by omega
    obtain ⟨hj20, hjs⟩ := hW.at hjW
    obtain ⟨hi20, his⟩ := hW.at hiW
    refine sg_X0_mostFrom_25 ⟨fun z => absurd z (nI_ge (by omega) (by omega)), fun _ => ⟨fun z => ?_, fun z => ?_⟩⟩
    · rw [nI_sub hij, nI_leI (by omega) (by omega)] at z
      rw [mLp_f (fun y => by have := y.2.1; omega)] at h
      exact h
    · rw [nI_sub hij, nI_leI (by omega) (by omega)] at z
      refine ⟨_, hV.xf6, _, x_own hV hW hl hjW, hV.xO, c_X0_isLoose hV hX hI hQ hj20 hjs ⟨_, rfl, fun c2 => ?_, fun c2 => ?_⟩⟩
      · have lo := bI_n0.mp c2
        rw [mLp_t ⟨by omega, by omega, lo⟩] at h
        have hW1 := hW
        obtain ⟨-, hnd, hcs, y, hch⟩ := hW1
        have hchi := Ch.drop (W ++ C) y i (by rw [List.length_append]; omega) hch
        rw [gD_app hiW] at hchi
        have hcsi : CS P ((W ++ C).drop i) := fun b hb => hcs b (List.mem_of_mem_drop hb)
        refine ⟨_, hV.xf6, _, x_own hV hW hl hjW, _, hV.xf6, _, x_own hV hW hl hiW, hV.xO, c_X0_rangeOf hV hX hI hB hj20 hjs hi20 hcsi hchi (seg_upt hnd hij hjW) ⟨_, rfl, d, ?_, hV.xO, ?_⟩⟩
        · show 6 + d + 1 ≤ 6 + (d + 1)
          omega
        · rw [nI_2, nI_sub hij, nI_1, nI_sub (by omega)]
          refine IH (j + 2) (n - (j - i + 1)) _ _ (by omega) (by omega) (by omega) ⟨_, rfl, ?_⟩
          rw [nI_1]
          exact ih (j + 1) _ (by omega) (by omega) h
      · have lo := bI_0.mp c2
        rw [mLp_f (fun y => lo y.2.2)] at h
        exact h
theorem c_X0_mostFrom (hV : V (l, x, m, sc) w) (hX : XP x a P D) (hI : PI P) (hQ : TQ P) (hB : DB P D) {W C : List Nat} (hW : OwR x a P W C) (hl : W.length ≤ 20) {M : Nat} (hM : M ≤ W.length) : ∀ (dd i n : Nat) (QR : Option aV → aW → Prop) (QX : String → aW → Prop), M - i ≤ dd → i ≤ 30 → n ≤ 8 → QR (some (vL (mF P D W M dd i n))) w → ct (KX0_mostFrom dd) 0 0 [vR (some (L_ad l 0)), vI (nI i), vI (nI M), vI (nI n)] w QR QX := by
  intro dd
  induction dd with
  | zero =>
    intro i n QR QX hd hi hn h
    exact st_X0_mostFrom (sg_X0_mostFrom_0 ⟨fun _ => h, fun c => absurd (nI_le (by omega) (by omega)) c⟩)
  | succ d ih =>
    intro i n QR QX hd hi hn h
    refine st_X0_mostFrom (sg_X0_mostFrom_0 ⟨fun c => ?_, fun c => ⟨fun c2 => ⟨d, ?_, hV.xO, ?_⟩, fun c2 => ?_⟩⟩)
    · rw [mF_0 (Or.inl ((nI_leI (by omega) (by omega)).mp c))] at h
      exact h
    · show 6 + d + 1 ≤ 6 + (d + 1)
      omega
    · have ci : i < M := Nat.lt_of_not_le (fun z => c (nI_le (a := M) (b := i) z (by omega)))
      have cn : ¬ n = 0 := fun z => c2 (by rw [z]; rfl)
      have h2 : QR (some (vL (mLp P D W M (mF P D W M d) i n (M - i) i (mF P D W M d (i + 1) n)))) w := by
        have e : mF P D W M (d + 1) i n = mLp P D W M (mF P D W M d) i n (M - i) i (mF P D W M d (i + 1) n) := if_neg (fun y => y.elim (fun z => by omega) cn)
        rw [← e]
        exact h
      rw [nI_1]
      refine ih (i + 1) n _ _ (by omega) (by omega) hn ⟨_, rfl, ?_⟩
      exact lp_mostFrom hV hX hI hQ hB hW hl hM ci hn hd (fun i n QR QX => ih i n QR QX) (M - i) i _ (by omega) (Nat.le_refl _) h2
    · have cn : n = 0 := (nI_eq (b := 0) (by omega) (by decide)).mp c2
      rw [mF_0 (Or.inr cn)] at h
      exact h
def mn8 (k : Nat) : Nat := if k < 8 then k else 8
theorem mn8_i {k : Nat} (h : k ≤ 20) : (if nI k < 8 then nI k else (8 : Int32)) = nI (mn8 k) := by
  unfold mn8
  show (if nI k < nI 8 then nI k else nI 8) = _
  by_cases c : k < 8
  · rw [if_pos (nI_lt c (by decide)), if_pos c]
  · rw [if_neg (nI_nlt (a := k) (b := 8) (by omega) (by omega)), if_neg c]
/-- the most that n of f's newest free -/
noncomputable def moV (P : PT) (D : DT) (f n : Nat) : Int64 := mF P D (oW P (nI f) (chl P f)) (mn8 (oW P (nI f) (chl P f)).length) 8 0 n
theorem oW_sp (v : Int32) : ∀ L : List Nat, ∃ C, L = oW P v L ++ C ∧ (∀ s, s ∈ oW P v L → P_owner P s = v) ∧ (C = [] ∨ ∃ o C', C = o :: C' ∧ ¬ P_owner P o = v) := by
  intro L
  induction L with
  | nil => exact ⟨[], rfl, fun s hs => absurd hs List.not_mem_nil, Or.inl rfl⟩
  | cons i L ih =>
    by_cases c : P_owner P i = v
    · obtain ⟨C, e, h1, h2⟩ := ih
      rw [oW_t c]
      refine ⟨C, by rw [List.cons_append, ← e], fun s hs => ?_, h2⟩
      rcases List.mem_cons.mp hs with z | z
      · rw [z]; exact c
      · exact h1 s z
    · rw [oW_f c]
      exact ⟨i :: L, rfl, fun s hs => absurd hs List.not_mem_nil, Or.inr ⟨i, L, rfl, c⟩⟩
theorem c_X0_mostOf (hV : V (l, x, m, sc) w) (hX : XP x a P D) {B : Nat} (hG : GI P D B) {f : Nat} (hf : f < 20) (hk : fK (P_kind P f)) {n : Nat} (hn : n ≤ 8) (h : ∀ x' w', V (l, x', m, sc) w' → XP x' a P D → XF x x' → QR (some (vL (moV P D f n))) w') : ct KX0_mostOf 1 8 [vR (some (L_ad l 0)), vR (some (a.1 f)), vI (nI n)] w QR QX := by
  have hC := hG.ch hf (Or.inl hk)
  have hcs := hG.pi.cs hf (Or.inl hk) hC
  have hnd := hG.chd hcs hC
  have hlen : (chl P f).length ≤ 20 := chn_len P 20 _
  obtain ⟨C, e, -, -⟩ := oW_sp (P := P) (nI f) (chl P f)
  have hWl : (oW P (nI f) (chl P f)).length ≤ 20 := by
    have := congrArg List.length e
    rw [List.length_append] at this
    omega
  refine st_X0_mostOf (sg_X0_mostOf_0 ⟨Nat.le_refl _, Nat.le_refl _, hV.xO, c_X0_gathers hV hX hG.pi hf hk hC hlen (fun x1 w1 h1 X1 K1 hm => ⟨_, rfl, 8, by decide, h1.xO, ?_⟩)⟩)
  rw [mn8_i hWl]
  refine c_X0_mostFrom h1 X1 hG.pi hG.tq hG.db (W := oW P (nI f) (chl P f)) (C := C) ⟨hm, by rw [← e]; exact hnd, by rw [← e]; exact hcs, _, by rw [← e]; exact hC⟩ hWl ?_ 8 0 n _ _ ?_ (by omega) hn ⟨_, rfl, h x1 w1 h1 X1 K1⟩
  · unfold mn8
    split <;> omega
  · unfold mn8
    split <;> omega
theorem fK_k {i : Int32} (h : fK (kdI P i)) : ∃ t : Nat, t < 20 ∧ i = nI t ∧ fK (P_kind P t) := fK_n h
noncomputable def r_mostX (P : PT) (D : DT) (i n : Int32) : Int64 := if inI n 0 8 ∧ fK (kdI P i) then moV P D i.toNatClampNeg n.toNatClampNeg else NOL
theorem c_X0_most (hV : V (l, x, m, sc) w) (hX : XP x a P D) {B : Nat} (hG : GI P D B) {i n : Int32} (h : ∀ x' w', V (l, x', m, sc) w' → XP x' a P D → XF x x' → QR (some (vL (r_mostX P D i n))) w') : ct KX0_most 1 8 [vR (some (L_ad l 0)), vI i, vI n] w QR QX := by
  have h0 := h x w hV hX (XF.rf x)
  unfold r_mostX at h h0
  refine st_X0_most (sg_X0_most_0 ⟨hV.xO, c_X0_holderAt hV hX hG.pi (fun t ht e hk => ⟨_, rfl, c_X0_inI 0 8 (by decide) (by decide) ⟨_, rfl, fun c => ?_, fun c => ⟨fun z => (by cases z), fun q z => ?_⟩⟩⟩) (fun z => ⟨_, rfl, c_X0_inI 0 8 (by decide) (by decide) ⟨_, rfl, fun c => ?_, fun c => ⟨fun _ => ?_, fun q z => (by cases z)⟩⟩⟩)⟩)
  · rw [if_neg (fun y => b2i_0.mp c y.1)] at h0
    exact h0
  · cases z
    subst e
    obtain ⟨K, hK', rfl⟩ := inI_n (H := 8) (b2i_n0.mp c) rfl rfl (by decide)
    by_cases cf : fK (P_kind P t)
    · rw [if_pos ⟨b2i_n0.mp c, by rw [kdI_n ht]; exact cf⟩, nI_clamp (by omega), nI_clamp (by omega)] at h
      exact Or.inl ⟨x_ck hV hX ht (cI_f cf), x_ck hV hX ht (cI_f cf), Nat.le_refl _, Nat.le_refl _, hV.xO, c_X0_mostOf hV hX hG ht cf (by omega) (fun x1 w1 h1 X1 K1 => ⟨_, rfl, h x1 w1 h1 X1 K1⟩)⟩
    · rw [if_neg (fun y => cf (by have := y.2; rw [kdI_n ht] at this; exact this))] at h0
      exact Or.inr ⟨x_cka hV hX hG.pi ht (hK_m1 hk) (ci_nf hG.pi ht (hK_m1 hk) cf), h0⟩
  · rw [if_neg (fun y => b2i_0.mp c y.1)] at h0
    exact h0
  · rw [if_neg (fun y => z (Or.inl y.2))] at h0
    exact h0
/-- the fewest, from n on -/
noncomputable def fwV (P : PT) (D : DT) (f : Nat) (v : Int64) : Nat → Nat → Int32
  | 0, _ => -1
  | k + 1, n => if moV P D f n < v then fwV P D f v k (n + 1) else nI n
theorem lp_fewestOf {B : Nat} (hG : GI P D B) {f : Nat} (hf : f < 20) (hk : fK (P_kind P f)) {v : Int64} {i4 : Int32} : ∀ k n rc rs x1 w1, n + k = 9 → k ≤ rc → 8 * k ≤ rs → V (l, x1, m, sc) w1 → XP x1 a P D → XF x x1 → (∀ x' w', V (l, x', m, sc) w' → XP x' a P D → XF x x' → QR (some (vI (fwV P D f v k n))) w') → wp KX0_fewestOf rc rs QR QX 9 [(0, vR (some (L_ad l 0))), (1, vR (some (a.1 f))), (2, vL v), (4, vI i4), (5, vI (nI n))] [] w1 := by
  intro k
  induction k with
  | zero =>
    intro n rc rs x1 w1 hn hr hs h1 X1 K1 h
    have : n = 9 := by omega
    subst this
    exact sg_X0_fewestOf_9 ⟨fun _ => h x1 w1 h1 X1 K1, fun c => absurd (by decide) c⟩
  | succ k ih =>
    intro n rc rs x1 w1 hn hr hs h1 X1 K1 h
    refine sg_X0_fewestOf_9 ⟨fun c => absurd c (nI_nlt (a := 8) (b := n) (by omega) (by decide)), fun _ => ⟨by omega, by omega, h1.xO, c_X0_mostOf h1 X1 hG hf hk (by omega) (fun x2 w2 h2 X2 K2 => ⟨_, rfl, fun c => ?_, fun c => ?_⟩)⟩⟩
    · rw [nI_1]
      refine ih (n + 1) (rc - 1) (rs - 8) x2 w2 (by omega) (by omega) (by omega) h2 X2 (K1.tr K2) (fun x3 w3 h3 X3 K3 => ?_)
      have := h x3 w3 h3 X3 K3
      unfold fwV at this
      rw [if_pos c] at this
      exact this
    · have := h x2 w2 h2 X2 (K1.tr K2)
      unfold fwV at this
      rw [if_neg c] at this
      exact this
noncomputable def r_fewestX (P : PT) (D : DT) (i : Int32) (v : Int64) : Int32 := if ask P i 0 = 0 then fwV P D i.toNatClampNeg v 9 0 else ask P i 0
theorem c_X0_fewest (hV : V (l, x, m, sc) w) (hX : XP x a P D) {B : Nat} (hG : GI P D B) {i : Int32} {v : Int64} (h : ∀ x' w', V (l, x', m, sc) w' → XP x' a P D → XF x x' → QR (some (vI (r_fewestX P D i v))) w') : ct KX0_fewest 20 1100 [vR (some (L_ad l 0)), vI i, vL v] w QR QX := by
  have h0 := h x w hV hX (XF.rf x)
  unfold r_fewestX at h h0
  refine st_X0_fewest (sg_X0_fewest_0 ⟨by decide, by decide, hV.xO, c_X0_thingAt hV hX hG.pi (fun t ht e => ⟨_, rfl, fun z => ?_, fun q z => ?_⟩) (fun z => ⟨rfl, ?_⟩)⟩)
  · subst e
    rw [ask_none ht (thO_none z), if_neg (by decide)] at h0
    exact ⟨by decide, by decide, hV.xO, st_X0_fewestOf (sg_X0_fewestOf_0 ⟨fun _ => ⟨by decide, by decide, rfl, h0⟩, fun q y => (by cases y)⟩)⟩
  · subst e
    obtain ⟨hn, rfl⟩ := thO_some z
    by_cases cf : fK (P_kind P t)
    · rw [if_pos (ask_ok ht hn ((uKd_0 _).mpr cf)), nI_clamp (by omega)] at h
      refine Or.inl ⟨x_ck hV hX ht (cI_f cf), by decide, by decide, hV.xO, st_X0_fewestOf (sg_X0_fewestOf_0 ⟨fun y => (by cases y), fun q y => ?_⟩)⟩
      cases y
      exact ⟨_, x_num hV hX ht (cI_f cf), lp_fewestOf (x := x) hG ht cf 9 0 10 80 x w rfl (by decide) (by decide) hV hX (XF.rf x) (fun x1 w1 h1 X1 K1 => ⟨_, rfl, h x1 w1 h1 X1 K1⟩)⟩
    · rw [ask_bad ht hn (fun y => cf ((uKd_0 _).mp y)), if_neg (by decide)] at h0
      exact Or.inr ⟨x_cka hV hX hG.pi ht hn (ci_nf hG.pi ht hn cf), by decide, by decide, h0⟩
  · rw [ask_out z, if_neg (by decide)] at h0
    exact h0
end XMo
