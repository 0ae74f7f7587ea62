/-! ===== the pool's changes: what is removed, rolled back ===== -/
set_option maxRecDepth 100000
set_option maxHeartbeats 400000
/-- what frees of slots S born after pv, below k -/
def flB (P : PT) (S : Nat → Int32) (pv : Int32) (k : Nat) : Prop := ¬ S k = -1 ∧ ¬ P_birth P (S k).toNatClampNeg ≤ pv
noncomputable def flS (P : PT) (S : Nat → Int32) (pv : Int32) : Nat → PT
  | 0 => P
  | k + 1 => @ite PT (flB P S pv k) (Classical.propDecidable _) (fbP (flS P S pv k) (S k).toNatClampNeg) (flS P S pv k)
theorem flS_t {P : PT} {S : Nat → Int32} {pv : Int32} {k : Nat} (h : flB P S pv k) : flS P S pv (k + 1) = fbP (flS P S pv k) (S k).toNatClampNeg := @if_pos _ (Classical.propDecidable _) h _ _ _
theorem flS_f {P : PT} {S : Nat → Int32} {pv : Int32} {k : Nat} (h : ¬ flB P S pv k) : flS P S pv (k + 1) = flS P S pv k := @if_neg _ (Classical.propDecidable _) h _ _ _
theorem flS_e (P : PT) (S : Nat → Int32) (pv : Int32) : ∀ k, P_time (flS P S pv k) = P_time P ∧ P_kind (flS P S pv k) = P_kind P ∧ P_made (flS P S pv k) = P_made P ∧ P_prev (flS P S pv k) = P_prev P ∧ P_owner (flS P S pv k) = P_owner P ∧ P_quota (flS P S pv k) = P_quota P ∧ P_tags (flS P S pv k) = P_tags P ∧ P_slot (flS P S pv k) = P_slot P ∧ P_birth (flS P S pv k) = P_birth P := by
  intro k
  induction k with
  | zero => exact ⟨rfl, rfl, rfl, rfl, rfl, rfl, rfl, rfl, rfl⟩
  | succ k ih =>
    by_cases c : flB P S pv k
    · rw [flS_t c]
      simp only [Z_fbP]
      exact ih
    · rw [flS_f c]
      exact ih
/-- merged by birth -/
noncomputable def mgL (P : PT) : Nat → List Nat → List Nat → List Nat
  | 0, _, _ => []
  | n + 1, [], [] => []
  | n + 1, [], b :: B => b :: mgL P n [] B
  | n + 1, c :: A, [] => c :: mgL P n A []
  | n + 1, c :: A, b :: B => @ite (List Nat) (lat P c b) (Classical.propDecidable _) (c :: mgL P n A (b :: B)) (b :: mgL P n (c :: A) B)
theorem mgL_len (P : PT) : ∀ n A B, A.length + B.length ≤ n → (mgL P n A B).length = A.length + B.length := by
  intro n
  induction n with
  | zero =>
    intro A B h
    have h1 : A = [] := List.length_eq_zero_iff.mp (by omega)
    have h2 : B = [] := List.length_eq_zero_iff.mp (by omega)
    subst h1
    subst h2
    rfl
  | succ n ih =>
    intro A B h
    cases A with
    | nil =>
      cases B with
      | nil => rfl
      | cons b B =>
        show (b :: mgL P n [] B).length = _
        rw [List.length_cons, ih [] B (by simp at h ⊢; omega)]
        simp
    | cons c A =>
      cases B with
      | nil =>
        show (c :: mgL P n A []).length = _
        rw [List.length_cons, ih A [] (by simp at h ⊢; omega)]
        simp
      | cons b B =>
        by_cases z : lat P c b
        · show (@ite (List Nat) (lat P c b) (Classical.propDecidable _) _ _).length = _
          rw [@if_pos _ (Classical.propDecidable _) z, List.length_cons, ih A (b :: B) (by simp at h ⊢; omega)]
          simp
          omega
        · show (@ite (List Nat) (lat P c b) (Classical.propDecidable _) _ _).length = _
          rw [@if_neg _ (Classical.propDecidable _) z, List.length_cons, ih (c :: A) B (by simp at h ⊢; omega)]
          simp
          omega
theorem mgL_nb {P : PT} {n b : Nat} {B : List Nat} : mgL P (n + 1) [] (b :: B) = b :: mgL P n [] B := rfl
theorem mgL_an {P : PT} {n b : Nat} {B : List Nat} : mgL P (n + 1) (b :: B) [] = b :: mgL P n B [] := rfl
theorem mgL_t {P : PT} {n c b : Nat} {A B : List Nat} (h : lat P c b) : mgL P (n + 1) (c :: A) (b :: B) = c :: mgL P n A (b :: B) := @if_pos _ (Classical.propDecidable _) h _ _ _
theorem mgL_f {P : PT} {n c b : Nat} {A B : List Nat} (h : ¬ lat P c b) : mgL P (n + 1) (c :: A) (b :: B) = b :: mgL P n (c :: A) B := @if_neg _ (Classical.propDecidable _) h _ _ _
section XE
variable {l : LT} {x : XT} {m : MT} {sc : Nat × (Nat → Int32)} {w : aW} {a : AT} {P : PT} {D : DT} {t u q : Nat} {r : RT} {QR : Option aV → aW → Prop} {QX : String → aW → Prop} {rc rs : Nat}
def PVr (a : AT) (P : PT) (r : RT) (pv : Int32) : Prop := (R_prev r = none ∧ pv = 0) ∨ ∃ p : Nat, p < 20 ∧ sK (P_kind P p) ∧ R_prev r = some (a.1 p) ∧ pv = P_made P p
theorem prevMadeV (hV : V (l, x, m, sc) w) (hX : XP x a P D) (hr : X_H x q = some r) {pv : Int32} (hp : PVr a P r pv) (h : QR (some (vI pv)) w) : ct KX4_prevMade 0 0 [vR (some q)] w QR QX := by
  have g := hV.hf_prev hr (hV.hc4 hr)
  rcases hp with ⟨e, rfl⟩ | ⟨p, hp, hs, e, rfl⟩
  · rw [e] at g
    exact st_X4_prevMade (sg_X4_prevMade_0 ⟨_, g, fun _ => h, fun q z => (by cases z)⟩)
  · rw [e] at g
    exact st_X4_prevMade (sg_X4_prevMade_0 ⟨_, g, fun z => (by cases z), fun q z => ⟨_, g, _, rfl, _, x_made hV hX hp (cI_s hs), h⟩⟩)
theorem lp_freesLive (hr5 : R_ci r ∈ [4, 5]) {S : Nat → Int32} (hs : ∀ k, k < 12 → R_slots r k = S k) (hS : ∀ k, k < 12 → S k = -1 ∨ ∃ b : Nat, b < 96 ∧ S k = nI b) {pv : Int32} (hp : PVr a P r pv) (h : ∀ x' w', V (l, x', m, sc) w' → XP x' a (flS P S pv 12) D → XK x x' → X_H x' = X_H x → QR (some (vI (nI (cn (flB P S pv) 12)))) w') : ∀ n k x1 w1, k + n = 12 → V (l, x1, m, sc) w1 → XP x1 a (flS P S pv k) D → XK x x1 → X_H x1 = X_H x → X_H x q = some r → wp KX0_freesLive rc rs QR QX 4 [(0, vR (some (L_ad l 0))), (1, vR (some q)), (2, vI (nI (cn (flB P S pv) k))), (3, vI (nI k))] [] w1 := by
  intro n
  induction n with
  | zero =>
    intro k x1 w1 hk h1 X1 K1 e1 hr
    refine sg_X0_freesLive_4 (lpc (N := 12) rfl (by decide) hk (fun _ => ?_) (fun m e => by omega))
    have : k = 12 := by omega
    subst this
    exact h x1 w1 h1 X1 K1 e1
  | succ n ih =>
    intro k x1 w1 hk h1 X1 K1 e1 hr
    have hr1 : X_H x1 q = some r := by rw [e1]; exact hr
    obtain ⟨f1, f2, f3, f4, f5, f6, f7, f8, f9⟩ := flS_e P S pv k
    have hp1 : PVr a (flS P S pv k) r pv := by
      unfold PVr
      rw [f2, f3]
      exact hp
    refine sg_X0_freesLive_4 (lpc (N := 12) rfl (by decide) hk (fun e => by omega) (fun _ e hk2 => ⟨_, rfl, _, h1.hf_sa hr1 hr5, S k, ?_, fun c => ?_, fun c => ?_⟩))
    · rw [← hs k hk2]
      exact g_slots h1 hr1 hk2
    · have nb : ¬ flB P S pv k := fun z => z.1 c
      rw [nI_1]
      have := ih (k + 1) x1 w1 (by omega) h1 (by rw [flS_f nb]; exact X1) K1 e1 hr
      rw [cn_f nb] at this
      exact this
    · rcases hS k hk2 with z | ⟨b, hb, z⟩
      · exact absurd z c
      · have gk : gI w1 (R_sa r) (nI k) (nI b) := by
          rw [← z, ← hs k hk2]
          exact g_slots h1 hr1 hk2
        have gb := x_birth h1 X1 hb
        rw [f9] at gb
        refine ⟨_, h1.xf1, _, h1.hf_sa hr1 hr5, _, gk, _, gb, h1.hck hr1 hr5, prevMadeV h1 X1 hr1 hp1 ⟨_, rfl, fun c2 => ?_, fun c2 => ⟨_, h1.hf_sa hr1 hr5, _, gk, h1.xO, c_X0_frees h1 X1 hb (fun x2 w2 h2 X2 K2 e2 => ⟨rfl, ?_⟩)⟩⟩⟩
        · have nb : ¬ flB P S pv k := fun y => y.2 (by rw [z, nI_clamp (by omega)]; exact c2)
          rw [nI_1]
          have := ih (k + 1) x1 w1 (by omega) h1 (by rw [flS_f nb]; exact X1) K1 e1 hr
          rw [cn_f nb] at this
          exact this
        · have yb : flB P S pv k := ⟨c, by rw [z, nI_clamp (by omega)]; exact c2⟩
          rw [nI_1, nI_1]
          have := ih (k + 1) x2 w2 (by omega) h2 (by rw [flS_t yb, z, nI_clamp (by omega)]; exact X2) (K1.tr K2) (e2.trans e1) hr
          rw [cn_t yb] at this
          exact this
theorem c_X0_freesLive (hV : V (l, x, m, sc) w) (hX : XP x a P D) (hr : X_H x q = some r) (hr5 : R_ci r ∈ [4, 5]) {S : Nat → Int32} (hs : ∀ k, k < 12 → R_slots r k = S k) (hS : ∀ k, k < 12 → S k = -1 ∨ ∃ b : Nat, b < 96 ∧ S k = nI b) {pv : Int32} (hp : PVr a P r pv) (h : ∀ x' w', V (l, x', m, sc) w' → XP x' a (flS P S pv 12) D → XK x x' → X_H x' = X_H x → QR (some (vI (nI (cn (flB P S pv) 12)))) w') : ct KX0_freesLive 0 0 [vR (some (L_ad l 0)), vR (some q)] w QR QX :=
  st_X0_freesLive (sg_X0_freesLive_0 (lp_freesLive hr5 hs hS hp h 12 0 x w rfl hV hX (XK.rf x) rfl hr))
theorem HR.pv {s : RT} (hI : PI P) (ht : t < 20) (hk : hK (P_kind P t)) (h : HR a P D t s) : PVr a P s (pm P t) := by
  rcases hI.p ht hk with e | ⟨p, hp, e, hs⟩
  · refine Or.inl ⟨?_, pm_m e⟩
    rw [h.2.2.2.2.2.2.1, pO_m e]
  · refine Or.inr ⟨p, hp, hs, ?_, pm_n hp e⟩
    rw [h.2.2.2.2.2.2.1, pO_n e hp]
/-- files removed: P with its place free, its blocks freed -/
noncomputable def rfP (P : PT) (f : Nat) : PT := flS (P_kind_ P (fset (P_kind P) f (-1))) (P_slot P f) (pm P f) 12
theorem c_X0_removesFiles (hV : V (l, x, m, sc) w) (hX : XP x a P D) (hI : PI P) {f : Nat} (hf : f < 20) (hk : fK (P_kind P f)) (h0 : 0 < nOw P (nI f) → QR (some (vI (-3))) w) (h : ¬ 0 < nOw P (nI f) → ∀ x' w', V (l, x', m, sc) w' → XP x' a (rfP P f) D → XK x x' → QR (some (vI (nI (cn (flB (P_kind_ P (fset (P_kind P) f (-1))) (P_slot P f) (pm P f)) 12)))) w') : ct KX0_removesFiles 0 0 [vR (some (L_ad l 0)), vR (some (a.1 f))] w QR QX := by
  have hl := cn_le (fun t' => sK (P_kind P t') ∧ P_owner P t' = nI f) 20
  have e0 : nI (nOw P (nI f)) ≤ 0 ↔ ¬ 0 < nOw P (nI f) := by
    have := nI_leI (a := nOw P (nI f)) (b := 0) (by unfold nOw; omega) (by decide)
    rw [show nI 0 = (0 : Int32) from rfl] at this
    rw [this]
    omega
  obtain ⟨s, hs, hsr⟩ := hX.h hf (Or.inl hk)
  refine st_X0_removesFiles (sg_X0_removesFiles_0 ⟨hV.xO, c_X0_ownMany hV hX hI hf (Or.inl hk) ⟨_, rfl, fun c => ⟨_, hV.xf4, _, rfl, _, x_num hV hX hf (cI_f hk), w_rm hV hX hf (fun x1 w1 h1 X1 K1 e1 => ⟨h1.xO, c_X0_freesLive h1 X1 (S := P_slot P f) (pv := pm P f) (by rw [e1]; exact hs) (hsr.c (cI_f hk)) hsr.2.2.2.2.2.2.2.2.2.2.1 (fun k hk2 => hI.s f k hf hk2) ?_ (fun x2 w2 h2 X2 K2 _ => ⟨_, rfl, h (e0.mp c) x2 w2 h2 X2 (K1.tr K2)⟩)⟩)⟩, fun c => h0 (Classical.byContradiction (fun z => c (e0.mpr z)))⟩⟩)
  rcases hsr.pv hI hf (Or.inl hk) with z | ⟨p, hp, hsp, z1, z2⟩
  · exact Or.inl z
  · refine Or.inr ⟨p, hp, ?_, z1, z2⟩
    have hpf : p ≠ f := fun e => by rw [e] at hsp; exact f_ns hk hsp
    show sK (fset (P_kind P) f (-1) p)
    rw [fset_n hpf]
    exact hsp
/-! merges -/
theorem lp_mg9 (hB : DB P D) {nx s : Nat} (hnx : nx < 20) (hknx : hK (P_kind P nx)) (hs : s < 20) (hks : sK (P_kind P s)) {i0 : Nat} (hi0 : i0 ≤ (D nx).length) {M : List Nat} (hM : M = mgL P (((D nx).drop i0).length + (D s).length) ((D nx).drop i0) (D s)) (h : ∀ x' w' G, V (l, x', m, sc) w' → XP x' a P D → XK x x' → X_H x' = X_H x → (∀ k, k < M.length → X_merged x' k = nI (gD M k)) → ∀ i4 i5, wp KX0_merges rc rs QR QX 141 [(0, vR (some (L_ad l 0))), (1, vR (some (a.1 nx))), (2, vI G), (3, vR (some (a.1 s))), (4, vI i4), (5, vI i5), (6, vI (nI M.length)), (7, vI 0)] [] w') {G : Int32} : ∀ n i j pre x1 w1, i0 ≤ i → i ≤ (D nx).length → j ≤ (D s).length → n = ((D nx).length - i) + ((D s).length - j) → M = pre ++ mgL P n ((D nx).drop i) ((D s).drop j) → pre.length = (i - i0) + j → V (l, x1, m, sc) w1 → XP x1 a P D → XK x x1 → X_H x1 = X_H x → (∀ k, k < pre.length → X_merged x1 k = nI (gD pre k)) → wp KX0_merges rc rs QR QX 9 [(0, vR (some (L_ad l 0))), (1, vR (some (a.1 nx))), (2, vI G), (3, vR (some (a.1 s))), (4, vI (nI i)), (5, vI (nI j)), (6, vI (nI pre.length))] [] w1 := by
  intro n
  induction n with
  | zero =>
    intro i j pre x1 w1 hi0 hi hj hn hpre hlen h1 X1 K1 e1 hm
    have ei : i = (D nx).length := by omega
    have ej : j = (D s).length := by omega
    have d1 := X1.dl hnx hknx
    have d2 := X1.dl hs (Or.inr hks)
    have g1 := x_dm h1 X1 hnx (cI_h hknx)
    have g2 := x_dm h1 X1 hs (cI_s hks)
    have em : M = pre := by
      rw [hpre]
      show pre ++ [] = pre
      exact List.append_nil pre
    refine sg_X0_merges_9 ⟨_, rfl, _, g1, fun c => absurd c (nI_nlt (by omega) (by omega)), fun _ => ⟨_, rfl, _, g2, fun _ => ?_, fun c => absurd (nI_le (by omega) (by omega)) c⟩⟩
    subst em
    exact h x1 w1 G h1 X1 K1 e1 hm _ _
  | succ n ih =>
    intro i j pre x1 w1 hi0 hi hj hn hpre hlen h1 X1 K1 e1 hm
    have d1 := X1.dl hnx hknx
    have d2 := X1.dl hs (Or.inr hks)
    have g1 := x_dm h1 X1 hnx (cI_h hknx)
    have g2 := x_dm h1 X1 hs (cI_s hks)
    -- one more to the row
    have put : ∀ (b : Nat), ∀ Q : aW → Prop, (∀ x2 w2, V (l, x2, m, sc) w2 → XP x2 a P D → XK x x2 → X_H x2 = X_H x → (∀ k, k < (pre ++ [b]).length → X_merged x2 k = nI (gD (pre ++ [b]) k)) → Q w2) → pI w1 (L_ad l 4) (nI pre.length) (nI b) Q := by
      intro b Q k
      refine h1.xp_merged (vp_in_nI (by omega) (by decide)) (fun w2 h2 => k _ w2 h2 X1 (K1.tr ⟨⟨rfl, rfl, rfl, rfl, rfl, fun q r h => ⟨r, h, rfl, rfl, rfl, rfl, rfl, fun _ => rfl⟩, fun q v h => h⟩, rfl⟩) e1 (fun k hk => ?_))
      rw [List.length_append] at hk
      show upd (X_merged x1) (nI pre.length).toNatClampNeg (nI b) k = _
      rw [nI_clamp (by omega)]
      unfold gD
      rw [List.getD_eq_getElem?_getD]
      by_cases c : k = pre.length
      · rw [c, vpu, List.getElem?_append_right (Nat.le_refl _), Nat.sub_self]
        rfl
      · have hlt : k < pre.length := by simp at hk; omega
        rw [List.getElem?_append_left hlt, ← List.getD_eq_getElem?_getD]
        exact (pk_un c).trans (hm k hlt)
    -- the next of the one
    have fromN : ∀ (hlt : i < (D nx).length), mgL P (n + 1) ((D nx).drop i) ((D s).drop j) = gD (D nx) i :: mgL P n ((D nx).drop (i + 1)) ((D s).drop j) → ∃ x85 : Nat, gf w1 (a.1 nx) [4, 5, 6, 7] 2 (vR (some x85)) ∧ ∃ x90 : Int32, gI w1 x85 (nI i) x90 ∧ pI w1 (L_ad l 4) (nI pre.length) x90 (fun w101 => wp (KX0_merges) rc rs QR QX 9 [(0, vR (some (L_ad l 0))), (1, vR (some (a.1 nx))), (2, vI G), (3, vR (some (a.1 s))), (4, vI (nI i + 1)), (5, vI (nI j + 0)), (6, vI (nI pre.length + 1))] [] w101) := by
      intro hlt hh
      refine ⟨_, x_da h1 X1 hnx (cI_h hknx), _, x_dead h1 X1 hnx hknx hlt, put _ _ (fun x2 w2 h2 X2 K2 e2 hm2 => ?_)⟩
      rw [nI_1, i_0, nI_1]
      have := ih (i + 1) j (pre ++ [gD (D nx) i]) x2 w2 (by omega) (by omega) hj (by omega) (by rw [hpre, hh, List.append_assoc]; rfl) (by rw [List.length_append]; show pre.length + 1 = _; omega) h2 X2 K2 e2 hm2
      rw [List.length_append] at this
      exact this
    have fromS : ∀ (hlt : j < (D s).length), mgL P (n + 1) ((D nx).drop i) ((D s).drop j) = gD (D s) j :: mgL P n ((D nx).drop i) ((D s).drop (j + 1)) → ∃ x95 : Nat, gf w1 (a.1 s) [6, 7] 2 (vR (some x95)) ∧ ∃ x100 : Int32, gI w1 x95 (nI j) x100 ∧ pI w1 (L_ad l 4) (nI pre.length) x100 (fun w101 => wp (KX0_merges) rc rs QR QX 9 [(0, vR (some (L_ad l 0))), (1, vR (some (a.1 nx))), (2, vI G), (3, vR (some (a.1 s))), (4, vI (nI i + 0)), (5, vI (nI j + 1)), (6, vI (nI pre.length + 1))] [] w101) := by
      intro hlt hh
      refine ⟨_, x_da h1 X1 hs (cI_s hks), _, x_dead h1 X1 hs (Or.inr hks) hlt, put _ _ (fun x2 w2 h2 X2 K2 e2 hm2 => ?_)⟩
      rw [nI_1, i_0, nI_1]
      have := ih i (j + 1) (pre ++ [gD (D s) j]) x2 w2 hi0 hi (by omega) (by omega) (by rw [hpre, hh, List.append_assoc]; rfl) (by rw [List.length_append]; show pre.length + 1 = _; omega) h2 X2 K2 e2 hm2
      rw [List.length_append] at this
      exact this
    have nilN : (D nx).length ≤ i → (D nx).drop i = [] := fun z => List.drop_eq_nil_of_le z
    have nilS : (D s).length ≤ j → (D s).drop j = [] := fun z => List.drop_eq_nil_of_le z
    have numi : nI i < nI (D nx).length ↔ i < (D nx).length := nI_ltI (by omega) (by omega)
    have lenN : nI (D nx).length ≤ nI i ↔ (D nx).length ≤ i := nI_leI (by omega) (by omega)
    have lenS : nI (D s).length ≤ nI j ↔ (D s).length ≤ j := nI_leI (by omega) (by omega)
    have eqS : nI j = nI (D s).length ↔ j = (D s).length := nI_eq (by omega) (by omega)
    have both : ∀ (hlt : i < (D nx).length) (hlt2 : j < (D s).length), ∃ x47 : Nat, gf w1 (a.1 nx) [4, 5, 6, 7] 2 (vR (some x47)) ∧ ∃ x52 : Int32, gI w1 x47 (nI i) x52 ∧ ∃ x54 : Nat, gf w1 (a.1 s) [6, 7] 2 (vR (some x54)) ∧ ∃ x59 : Int32, gI w1 x54 (nI j) x59 ∧ isO w1 (L_ad l 0) 0 ∧ ct (KX0_isLater) 0 0 [vR (some (L_ad l 0)), vI x52, vI x59] w1 (fun v60 w60 => ∃ x60 : Int32, v60 = some (vI x60) ∧ (x60 = 0 → ∃ x74 : Nat, gf w60 (L_ad l 0) [0] 5 (vR (some x74)) ∧ ∃ x95 : Nat, gf w60 (a.1 s) [6, 7] 2 (vR (some x95)) ∧ ∃ x100 : Int32, gI w60 x95 (nI j) x100 ∧ pI w60 x74 (nI pre.length) x100 (fun w101 => wp (KX0_merges) rc rs QR QX 9 [(0, vR (some (L_ad l 0))), (1, vR (some (a.1 nx))), (2, vI G), (3, vR (some (a.1 s))), (4, vI (nI i + 0)), (5, vI (nI j + 1)), (6, vI (nI pre.length + 1))] [] w101)) ∧ (¬ x60 = 0 → ∃ x74 : Nat, gf w60 (L_ad l 0) [0] 5 (vR (some x74)) ∧ ∃ x85 : Nat, gf w60 (a.1 nx) [4, 5, 6, 7] 2 (vR (some x85)) ∧ ∃ x90 : Int32, gI w60 x85 (nI i) x90 ∧ pI w60 x74 (nI pre.length) x90 (fun w101 => wp (KX0_merges) rc rs QR QX 9 [(0, vR (some (L_ad l 0))), (1, vR (some (a.1 nx))), (2, vI G), (3, vR (some (a.1 s))), (4, vI (nI i + 1)), (5, vI (nI j + 0)), (6, vI (nI pre.length + 1))] [] w101))) (fun E60 w60 => False) := by
      intro hlt hlt2
      refine ⟨_, x_da h1 X1 hnx (cI_h hknx), _, x_dead h1 X1 hnx hknx hlt, _, x_da h1 X1 hs (cI_s hks), _, x_dead h1 X1 hs (Or.inr hks) hlt2, h1.xO, c_X0_isLater h1 X1 (hB nx hnx hknx i hlt) (hB s hs (Or.inr hks) j hlt2) ⟨_, rfl, fun c => ⟨_, h1.xf5, fromS hlt2 ?_⟩, fun c => ⟨_, h1.xf5, fromN hlt ?_⟩⟩⟩
      · rw [gD_drop _ hlt, gD_drop _ hlt2, mgL_f (bI_0.mp c)]
      · rw [gD_drop _ hlt, gD_drop _ hlt2, mgL_t (bI_n0.mp c)]
    refine sg_X0_merges_9 ⟨_, rfl, _, g1, fun c => ⟨_, rfl, _, g2, fun c2 => ⟨_, h1.xf5, fromN (numi.mp c) ?_⟩, fun c2 => ⟨_, g1, fun c3 => absurd (lenN.mp c3) (by have := numi.mp c; omega), fun c3 => both (numi.mp c) (by have z1 : ¬ j = (D s).length := fun z => c2 (eqS.mpr z); omega)⟩⟩, fun c => ⟨_, rfl, _, g2, fun c2 => ?_, fun c2 => ⟨_, g2, fun c3 => absurd (lenS.mpr (by have := eqS.mp c3; omega)) c2, fun c3 => ⟨_, g1, fun c4 => ⟨_, h1.xf5, fromS (by have z1 : ¬ (D s).length ≤ j := fun z => c2 (lenS.mpr z); omega) ?_⟩, fun c4 => absurd (lenN.mpr (by have z1 : ¬ i < (D nx).length := fun z => c (numi.mpr z); omega)) c4⟩⟩⟩⟩
    · rw [gD_drop _ (numi.mp c), nilS (by have := eqS.mp c2; omega)]
      exact mgL_an
    · have q1 : ¬ i < (D nx).length := fun z => c (numi.mpr z)
      have q2 := lenS.mp c2
      omega
    · have q1 : ¬ (D s).length ≤ j := fun z => c2 (lenS.mpr z)
      have q2 := lenN.mp c4
      rw [gD_drop (D s) (k := j) (by omega), nilN q2]
      exact mgL_nb
theorem lp_mg141 (hX : XP x a P D) {nx : Nat} (hnx : nx < 20) (hknx : hK (P_kind P nx)) {rx : RT} (hr : X_H x (a.1 nx) = some rx) {M : List Nat} (hM : M.length ≤ 12) (hm : ∀ k, k < M.length → X_merged x k = nI (gD M k)) {i2 i4 i5 : Int32} {r3 : Option Nat} (h : ∀ x' w', V (l, x', m, sc) w' → XP x' a P (fset D nx M) → XK x x' → QR none w') : ∀ n k w1 F, k + n = M.length → V (l, xh x (a.1 nx) (R_dead_ rx F), m, sc) w1 → (∀ i, i < k → F i = nI (gD M i)) → wp KX0_merges rc rs QR QX 141 [(0, vR (some (L_ad l 0))), (1, vR (some (a.1 nx))), (2, vI i2), (3, vR r3), (4, vI i4), (5, vI i5), (6, vI (nI M.length)), (7, vI (nI k))] [] w1 := by
  intro n
  induction n with
  | zero =>
    intro k w1 F hk h1 hF
    have hc := h1.hc4 xh_h
    refine sg_X0_merges_141 ⟨fun _ => ⟨_, rfl, h1.hpf_deadMany xh_h hc (fun w2 h2 => ?_)⟩, fun c => absurd (nI_le (by omega) (by omega)) c⟩
    have e : xh (xh x (a.1 nx) (R_dead_ rx F)) (a.1 nx) (R_deadMany_ (R_dead_ rx F) (nI M.length)) = xh x (a.1 nx) (R_deadMany_ (R_dead_ rx F) (nI M.length)) := xh_xh
    have h3 : V (l, xh x (a.1 nx) (R_deadMany_ (R_dead_ rx F) (nI M.length)), m, sc) w2 := by
      rw [← e]
      exact h2
    exact h _ w2 h3 (hX.deadL hnx hknx hr hM (fun i hi => hF i (by omega))) (XK.hup hr rfl rfl rfl rfl rfl (fun _ => rfl))
  | succ n ih =>
    intro k w1 F hk h1 hF
    have hc := h1.hc4 xh_h
    have gm : gI w1 (L_ad l 4) (nI k) (nI (gD M k)) := by
      have g := h1.xg_merged (i := nI k) (vp_in_nI (by omega) (by decide))
      rw [nI_clamp (by omega)] at g
      have g' : gI w1 (L_ad l 4) (nI k) (X_merged x k) := g
      rw [hm k (by omega)] at g'
      exact g'
    refine sg_X0_merges_141 ⟨fun c => absurd c (nI_ge (by omega) (by omega)), fun _ => ⟨_, rfl, _, h1.hf_da xh_h hc, _, h1.xf5, _, gm, p_dead h1 xh_h (by omega) (fun w2 h2 => ?_)⟩⟩
    rw [xh_xh] at h2
    rw [nI_1]
    refine ih (k + 1) w2 (upd F k (nI (gD M k))) (by omega) h2 (fun i hi => ?_)
    by_cases c : i = k
    · subst c
      exact vpu
    · exact (pk_un c).trans (hF i (by omega))
noncomputable def mgD (P : PT) (D : DT) (nx s i0 : Nat) : List Nat := mgL P (((D nx).drop i0).length + (D s).length) ((D nx).drop i0) (D s)
theorem c_X0_merges (hV : V (l, x, m, sc) w) (hX : XP x a P D) (hB : DB P D) {nx s : Nat} (hnx : nx < 20) (hknx : hK (P_kind P nx)) (hs : s < 20) (hks : sK (P_kind P s)) {i0 : Nat} (hi0 : i0 ≤ (D nx).length) (hlen : ((D nx).drop i0).length + (D s).length ≤ 12) (h : ∀ x' w', V (l, x', m, sc) w' → XP x' a P (fset D nx (mgD P D nx s i0)) → XK x x' → QR none w') : ct KX0_merges 0 0 [vR (some (L_ad l 0)), vR (some (a.1 nx)), vI (nI i0), vR (some (a.1 s))] w QR QX := by
  have hl : (mgD P D nx s i0).length ≤ 12 := by
    unfold mgD
    rw [mgL_len P _ _ _ (Nat.le_refl _)]
    exact hlen
  have hle : ((D nx).drop i0).length = (D nx).length - i0 := List.length_drop
  refine st_X0_merges (sg_X0_merges_0 ?_)
  have := lp_mg9 (rc := 0) (rs := 0) (QR := QR) (QX := QX) (x := x) (G := nI i0) (M := mgD P D nx s i0) hB hnx hknx hs hks hi0 rfl (fun x1 w1 G h1 X1 K1 e1 hm i4 i5 => ?_) (((D nx).length - i0) + ((D s).length - 0)) i0 0 [] x w (Nat.le_refl _) hi0 (Nat.zero_le _) rfl (by
    rw [List.nil_append]
    unfold mgD
    rw [hle, Nat.sub_zero]
    rfl) (by rw [Nat.sub_self]; rfl) hV hX (XK.rf x) rfl (fun k hk => absurd hk (Nat.not_lt_zero _))
  · exact this
  · obtain ⟨rx, hr1, hr2⟩ := X1.h hnx hknx
    refine lp_mg141 X1 hnx hknx hr1 hl hm (fun x2 w2 h2 X2 K2 => h x2 w2 h2 X2 (K1.tr K2)) (mgD P D nx s i0).length 0 w1 (R_dead rx) (Nat.zero_add _) ?_ (fun i hi => absurd hi (Nat.not_lt_zero _))
    have e : xh x1 (a.1 nx) (R_dead_ rx (R_dead rx)) = x1 := xh_self hr1
    rw [e]
    exact h1
/-! a snapshot removed -/
/-- the first n of a row, freed -/
def frL (P : PT) : List Nat → PT
  | [] => P
  | b :: L => frL (fbP P b) L
theorem frL_snoc (L : List Nat) : ∀ (P : PT) (b : Nat), frL P (L ++ [b]) = fbP (frL P L) b := by
  induction L with
  | nil => intro P b; rfl
  | cons c L ih => intro P b; exact ih (fbP P c) b
theorem frL_e (L : List Nat) : ∀ P : PT, P_time (frL P L) = P_time P ∧ P_kind (frL P L) = P_kind P ∧ P_made (frL P L) = P_made P ∧ P_prev (frL P L) = P_prev P ∧ P_owner (frL P L) = P_owner P ∧ P_quota (frL P L) = P_quota P ∧ P_tags (frL P L) = P_tags P ∧ P_slot (frL P L) = P_slot P ∧ P_birth (frL P L) = P_birth P := by
  induction L with
  | nil => intro P; exact ⟨rfl, rfl, rfl, rfl, rfl, rfl, rfl, rfl, rfl⟩
  | cons b L ih =>
    intro P
    have := ih (fbP P b)
    simp only [Z_fbP] at this
    exact this
/-- how many of a dead list are freed -/
def rmN (P : PT) (pv : Int32) (L : List Nat) (n : Nat) : Prop := n ≤ L.length ∧ (∀ i, i < n → ¬ P_birth P (gD L i) ≤ pv) ∧ (n = L.length ∨ P_birth P (gD L n) ≤ pv)
noncomputable def rsP (P : PT) (D : DT) (s n : Nat) : PT := P_kind_ (P_prev_ (frL P ((D (nxO P s)).take n)) (fset (P_prev P) (nxO P s) (P_prev P s))) (fset (P_kind P) s (-1))
theorem PI.fr {L : List Nat} (hI : PI P) : PI (frL P L) := by
  obtain ⟨f1, f2, f3, f4, f5, f6, f7, f8, f9⟩ := frL_e L P
  unfold PI SO
  rw [f2, f4, f5, f8]
  exact hI
theorem lat_cg {Q : PT} (h : P_birth Q = P_birth P) : lat Q = lat P := by
  funext b c
  unfold lat
  rw [h]
theorem mgL_cg {Q : PT} (h : P_birth Q = P_birth P) : ∀ n A B, mgL Q n A B = mgL P n A B := by
  intro n
  induction n with
  | zero => intro A B; rfl
  | succ n ih =>
    intro A B
    cases A with
    | nil =>
      cases B with
      | nil => rfl
      | cons b B => rw [mgL_nb, mgL_nb, ih]
    | cons c A =>
      cases B with
      | nil => rw [mgL_an, mgL_an, ih]
      | cons b B =>
        by_cases z : lat P c b
        · rw [mgL_t z, mgL_t (by rw [lat_cg h]; exact z), ih]
        · rw [mgL_f z, mgL_f (by rw [lat_cg h]; exact z), ih]
theorem take_s (L : List Nat) {n : Nat} (h : n < L.length) : L.take (n + 1) = L.take n ++ [gD L n] := by
  rw [List.take_succ, List.getElem?_eq_getElem h]
  unfold gD
  rw [List.getD_eq_getElem?_getD, List.getElem?_eq_getElem h]
  rfl
theorem lp_removes (hI : PI P) (hB : DB P D) {s : Nat} (hs : s < 20) (hk : sK (P_kind P s)) (hn1 : nNx P (nI s) = 1) (hlen : ∀ n, rmN P (pm P s) (D (nxO P s)) n → ((D (nxO P s)).drop n).length + (D s).length ≤ 12) (h : ∀ n x' w', rmN P (pm P s) (D (nxO P s)) n → V (l, x', m, sc) w' → XP x' a (rsP P D s n) (fset D (nxO P s) (mgD P D (nxO P s) s n)) → XK x x' → QR (some (vI (nI n))) w') : ∀ j n x1 w1, n + j = (D (nxO P s)).length → (∀ i, i < n → ¬ P_birth P (gD (D (nxO P s)) i) ≤ pm P s) → V (l, x1, m, sc) w1 → XP x1 a (frL P ((D (nxO P s)).take n)) D → XK x x1 → wp KX0_removes rc rs QR QX 8 [(0, vR (some (L_ad l 0))), (1, vR (some (a.1 s))), (2, vR (some (a.1 (nxO P s)))), (3, vI (nI n))] [] w1 := by
  obtain ⟨hnx, hknx, hpnx⟩ := nxO_lt hn1
  have fin : ∀ n x1 w1, rmN P (pm P s) (D (nxO P s)) n → V (l, x1, m, sc) w1 → XP x1 a (frL P ((D (nxO P s)).take n)) D → XK x x1 → isO w1 (L_ad l 0) 0 ∧ ct (KX0_merges) 0 0 [vR (some (L_ad l 0)), vR (some (a.1 (nxO P s))), vI (nI n), vR (some (a.1 s))] w1 (fun v54 w54 => v54 = none ∧ ∃ x59 : Option Nat, gf w54 (a.1 s) [6, 7] 5 (vR x59) ∧ pf w54 (a.1 (nxO P s)) [4, 5, 6, 7] 5 (vR x59) (fun w62 => ∃ x66 : Nat, gf w62 (L_ad l 0) [0] 4 (vR (some x66)) ∧ ∃ x70 : Int32, gf w62 (a.1 s) [6, 7] 4 (vI x70) ∧ pR w62 x66 2 x70 none (fun w74 => QR (some (vI (nI n))) w74))) (fun E54 w54 => False) := by
    intro n x1 w1 hr h1 X1 K1
    obtain ⟨f1, f2, f3, f4, f5, f6, f7, f8, f9⟩ := frL_e ((D (nxO P s)).take n) P
    have hk1 : hK (P_kind (frL P ((D (nxO P s)).take n)) (nxO P s)) := by rw [f2]; exact hknx
    have hk2 : sK (P_kind (frL P ((D (nxO P s)).take n)) s) := by rw [f2]; exact hk
    have hB1 : DB (frL P ((D (nxO P s)).take n)) D := by
      intro t ht hkt
      rw [f2] at hkt
      exact hB t ht hkt
    refine ⟨h1.xO, c_X0_merges h1 X1 hB1 hnx hk1 hs hk2 hr.1 (hlen n hr) (fun x2 w2 h2 X2 K2 => ⟨rfl, _, x_prev h2 X2 hs (cI_s hk2), w_prev h2 X2 hnx (cI_h hk1) (v := P_prev P s) (by rw [f4]) (fun x3 w3 h3 X3 K3 => ⟨_, h3.xf4, _, x_num h3 X3 hs (cI_s hk2), w_rm h3 X3 hs (fun x4 w4 h4 X4 K4 _ => h n x4 w4 hr h4 ?_ (((K1.tr K2).tr K3).tr K4))⟩)⟩)⟩
    have e1 : mgD (frL P ((D (nxO P s)).take n)) D (nxO P s) s n = mgD P D (nxO P s) s n := mgL_cg f9 _ _ _
    have e2 : P_kind_ (P_prev_ (frL P ((D (nxO P s)).take n)) (fset (P_prev (frL P ((D (nxO P s)).take n))) (nxO P s) (P_prev P s))) (fset (P_kind (P_prev_ (frL P ((D (nxO P s)).take n)) (fset (P_prev (frL P ((D (nxO P s)).take n))) (nxO P s) (P_prev P s)))) s (-1)) = rsP P D s n := by
      unfold rsP
      rw [(Z_prev _ _).2.2.1, f2, f4]
    rw [e1, e2] at X4
    exact X4
  intro j
  induction j with
  | zero =>
    intro n x1 w1 hj hb h1 X1 K1
    have en : n = (D (nxO P s)).length := by omega
    obtain ⟨f1, f2, f3, f4, f5, f6, f7, f8, f9⟩ := frL_e ((D (nxO P s)).take n) P
    have hk1 : hK (P_kind (frL P ((D (nxO P s)).take n)) (nxO P s)) := by rw [f2]; exact hknx
    have d1 := X1.dl hnx hk1
    obtain ⟨q1, q2⟩ := fin n x1 w1 ⟨by omega, hb, Or.inl en⟩ h1 X1 K1
    have q3 : ct (KX0_merges) 0 0 [vR (some (L_ad l 0)), vR (some (a.1 (nxO P s))), vI (nI n), vR (some (a.1 s))] w1 (fun v54 w54 => v54 = none ∧ ∃ a59 : Nat, some (a.1 s) = some a59 ∧ ∃ x59 : Option Nat, gf w54 a59 [6, 7] 5 (vR x59) ∧ pf w54 (a.1 (nxO P s)) [4, 5, 6, 7] 5 (vR x59) (fun w62 => ∃ x66 : Nat, gf w62 (L_ad l 0) [0] 4 (vR (some x66)) ∧ ∃ x70 : Int32, gf w62 a59 [6, 7] 4 (vI x70) ∧ pR w62 x66 2 x70 none (fun w74 => QR (some (vI (nI n))) w74))) (fun E54 w54 => False) := by
      have e : (fun (v54 : Option aV) (w54 : aW) => v54 = none ∧ ∃ a59 : Nat, some (a.1 s) = some a59 ∧ ∃ x59 : Option Nat, gf w54 a59 [6, 7] 5 (vR x59) ∧ pf w54 (a.1 (nxO P s)) [4, 5, 6, 7] 5 (vR x59) (fun w62 => ∃ x66 : Nat, gf w62 (L_ad l 0) [0] 4 (vR (some x66)) ∧ ∃ x70 : Int32, gf w62 a59 [6, 7] 4 (vI x70) ∧ pR w62 x66 2 x70 none (fun w74 => QR (some (vI (nI n))) w74))) = (fun (v54 : Option aV) (w54 : aW) => v54 = none ∧ ∃ x59 : Option Nat, gf w54 (a.1 s) [6, 7] 5 (vR x59) ∧ pf w54 (a.1 (nxO P s)) [4, 5, 6, 7] 5 (vR x59) (fun w62 => ∃ x66 : Nat, gf w62 (L_ad l 0) [0] 4 (vR (some x66)) ∧ ∃ x70 : Int32, gf w62 (a.1 s) [6, 7] 4 (vI x70) ∧ pR w62 x66 2 x70 none (fun w74 => QR (some (vI (nI n))) w74))) := by
        funext v54 w54
        refine propext ⟨fun y => ⟨y.1, ?_⟩, fun y => ⟨y.1, a.1 s, rfl, y.2⟩⟩
        obtain ⟨-, a59, e59, z⟩ := y
        cases e59
        exact z
      rw [e]
      exact q2
    refine sg_X0_removes_8 ⟨_, rfl, _, x_dm h1 X1 hnx (cI_h hk1), fun _ => ⟨q1, q3⟩, fun c => absurd (nI_le (by omega) (by omega)) c⟩
  | succ j ih =>
    intro n x1 w1 hj hb h1 X1 K1
    have hlt : n < (D (nxO P s)).length := by omega
    obtain ⟨f1, f2, f3, f4, f5, f6, f7, f8, f9⟩ := frL_e ((D (nxO P s)).take n) P
    have hk1 : hK (P_kind (frL P ((D (nxO P s)).take n)) (nxO P s)) := by rw [f2]; exact hknx
    have hk2 : sK (P_kind (frL P ((D (nxO P s)).take n)) s) := by rw [f2]; exact hk
    have d1 := X1.dl hnx hk1
    have hb96 := hB (nxO P s) hnx hknx n hlt
    have gb := x_birth h1 X1 hb96
    rw [f9] at gb
    have epm : pm (frL P ((D (nxO P s)).take n)) s = pm P s := by
      unfold pm pn
      rw [f3, f4]
    refine sg_X0_removes_8 ⟨_, rfl, _, x_dm h1 X1 hnx (cI_h hk1), fun c => absurd c (nI_ge hlt (by omega)), fun _ => ⟨_, h1.xf1, _, x_da h1 X1 hnx (cI_h hk1), _, x_dead h1 X1 hnx hk1 hlt, _, gb, _, rfl, x_ck h1 X1 hs (cI_s hk2), c_X4_prevMade h1 X1 hI.fr hs (Or.inr hk2) ⟨_, rfl, fun c => ?_, fun c => ⟨_, x_da h1 X1 hnx (cI_h hk1), _, x_dead h1 X1 hnx hk1 hlt, h1.xO, c_X0_frees h1 X1 hb96 (fun x2 w2 h2 X2 K2 _ => ⟨rfl, ?_⟩)⟩⟩⟩⟩
    · rw [epm] at c
      exact fin n x1 w1 ⟨by omega, hb, Or.inr c⟩ h1 X1 K1
    · rw [epm] at c
      rw [nI_1]
      refine ih (n + 1) x2 w2 (by omega) (fun i hi => ?_) h2 ?_ (K1.tr K2)
      · rcases Nat.lt_or_ge i n with y | y
        · exact hb i y
        · have : i = n := by omega
          rw [this]
          exact c
      · rw [take_s _ hlt, frL_snoc]
        exact X2
theorem c_X0_removes (hV : V (l, x, m, sc) w) (hX : XP x a P D) (hI : PI P) (hB : DB P D) {s : Nat} (hs : s < 20) (hk : sK (P_kind P s)) (hn1 : nNx P (nI s) = 1) (hlen : ∀ n, rmN P (pm P s) (D (nxO P s)) n → ((D (nxO P s)).drop n).length + (D s).length ≤ 12) (h : ∀ n x' w', rmN P (pm P s) (D (nxO P s)) n → V (l, x', m, sc) w' → XP x' a (rsP P D s n) (fset D (nxO P s) (mgD P D (nxO P s) s n)) → XK x x' → QR (some (vI (nI n))) w') : ct KX0_removes 0 0 [vR (some (L_ad l 0)), vR (some (a.1 s))] w QR QX := by
  obtain ⟨hnx, hknx, hpnx⟩ := nxO_lt hn1
  refine st_X0_removes (sg_X0_removes_0 ⟨hV.xO, c_X0_nextOf hV hX hI hs hk (fun _ => ⟨_, rfl, ?_⟩) (fun z => by omega)⟩)
  exact lp_removes hI hB hs hk hn1 hlen h (D (nxO P s)).length 0 x w (Nat.zero_add _) (fun i hi => absurd hi (Nat.not_lt_zero _)) hV (by rw [List.take_zero]; exact hX) (XK.rf x)
/-- room where rows merge -/
def LM (P : PT) (D : DT) : Prop := ∀ s n, s < 20 → sK (P_kind P s) → nNx P (nI s) = 1 → rmN P (pm P s) (D (nxO P s)) n → ((D (nxO P s)).drop n).length + (D s).length ≤ 12
def rvR (P : PT) (D : DT) (i v : Int32) (P' : PT) (D' : DT) : Prop := (v = thr P i ∧ ¬ thr P i = 0 ∧ P' = P ∧ D' = D) ∨ ∃ t : Nat, t < 20 ∧ i = nI t ∧ ((P_kind P t = 4 ∧ v = 0 ∧ P' = P_kind_ P (fset (P_kind P) t (-1)) ∧ D' = D) ∨ (fK (P_kind P t) ∧ 0 < nOw P (nI t) ∧ v = -3 ∧ P' = P ∧ D' = D) ∨ (fK (P_kind P t) ∧ ¬ 0 < nOw P (nI t) ∧ v = nI (cn (flB (P_kind_ P (fset (P_kind P) t (-1))) (P_slot P t) (pm P t)) 12) ∧ P' = rfP P t ∧ D' = D) ∨ (sK (P_kind P t) ∧ ¬ lsP P t ∧ v = -3 ∧ P' = P ∧ D' = D) ∨ (sK (P_kind P t) ∧ lsP P t ∧ ∃ n, rmN P (pm P t) (D (nxO P t)) n ∧ v = nI n ∧ P' = rsP P D t n ∧ D' = fset D (nxO P t) (mgD P D (nxO P t) t n)))
theorem thr_out {i : Int32} (h : ¬ inR i) : thr P i = -12 := if_neg h
theorem thr_none (ht : t < 20) (h : P_kind P t = -1) : thr P (nI t) = -11 := by
  unfold thr
  rw [if_pos (n_inR ht), kdI_n ht, if_pos h]
theorem c_X0_remove (hV : V (l, x, m, sc) w) (hX : XP x a P D) (hI : PI P) (hQ : TQ P) (hB : DB P D) (hM : LM P D) {i : Int32} (h : ∀ x' w' v P' D', rvR P D i v P' D' → V (l, x', m, sc) w' → XP x' a P' D' → XK x x' → QR (some (vI v)) w') : ct KX0_remove 0 0 [vR (some (L_ad l 0)), vI i] w QR QX := by
  refine st_X0_remove (sg_X0_remove_0 (c_X0_inI 0 19 (by decide) (by decide) ⟨_, rfl, fun c => ?_, fun c => ?_⟩))
  · obtain ⟨t, ht, rfl⟩ := inR_n (b2i_n0.mp c)
    refine ⟨_, hV.xf4, _, x_th hV hX hI ht, fun e => ?_, fun q e => ?_⟩
    · have e1 := thr_none ht (thO_none e)
      exact h x w _ P D (Or.inl ⟨e1.symm, by rw [e1]; decide, rfl, rfl⟩) hV hX (XK.rf x)
    · obtain ⟨hn, rfl⟩ := thO_some e
      by_cases ch : hK (P_kind P t)
      · refine Or.inr ⟨x_ck hV hX ht (cI_h ch), ?_⟩
        by_cases cf : fK (P_kind P t)
        · exact Or.inl ⟨x_ck hV hX ht (cI_f cf), x_ck hV hX ht (cI_f cf), hV.xO, c_X0_removesFiles hV hX hI ht cf (fun z => ⟨_, rfl, h x w _ P D (Or.inr ⟨t, ht, rfl, Or.inr (Or.inl ⟨cf, z, rfl, rfl, rfl⟩)⟩) hV hX (XK.rf x)⟩) (fun z x1 w1 h1 X1 K1 => ⟨_, rfl, h x1 w1 _ _ D (Or.inr ⟨t, ht, rfl, Or.inr (Or.inr (Or.inl ⟨cf, z, rfl, rfl, rfl⟩))⟩) h1 X1 K1⟩)⟩
        · have cs := ch.resolve_left cf
          refine Or.inr ⟨x_cka hV hX hI ht hn (ci_nf hI ht hn cf), x_ck hV hX ht (cI_s cs), hV.xO, c_X0_isLoose hV hX hI hQ ht cs ⟨_, rfl, fun c2 => ?_, fun c2 => ⟨x_ck hV hX ht (cI_s cs), hV.xO, ?_⟩⟩⟩
          · exact h x w _ P D (Or.inr ⟨t, ht, rfl, Or.inr (Or.inr (Or.inr (Or.inl ⟨cs, bI_0.mp c2, rfl, rfl, rfl⟩)))⟩) hV hX (XK.rf x)
          · have hl := bI_n0.mp c2
            exact c_X0_removes hV hX hI hB ht cs hl.2 (fun n hr => hM t n ht cs hl.2 hr) (fun n x1 w1 hr h1 X1 K1 => ⟨_, rfl, h x1 w1 _ _ _ (Or.inr ⟨t, ht, rfl, Or.inr (Or.inr (Or.inr (Or.inr ⟨cs, hl, n, hr, rfl, rfl, rfl⟩)))⟩) h1 X1 K1⟩)
      · have c4 := k_nh hI ht hn ch
        exact Or.inl ⟨x_bck hV hX ht c4 (by decide), _, hV.xf4, w_rm hV hX ht (fun x1 w1 h1 X1 K1 _ => h x1 w1 _ _ D (Or.inr ⟨t, ht, rfl, Or.inl ⟨c4, rfl, rfl, rfl⟩⟩) h1 X1 K1)⟩
  · have e1 := thr_out (P := P) (b2i_0.mp c)
    exact h x w _ P D (Or.inl ⟨e1.symm, by rw [e1]; decide, rfl, rfl⟩) hV hX (XK.rf x)
/-! rolled back -/
theorem XP.slotsRow (hX : XP x a P D) (ht : t < 20) (hk : hK (P_kind P t)) (hr : X_H x (a.1 t) = some r) {F G : Nat → Int32} (hF : ∀ k, k < 12 → F k = G k) : XP (xh x (a.1 t) (R_slots_ r F)) a (P_slot_ P (fset (P_slot P) t G)) D := by
  obtain ⟨r', h1, h2⟩ := hX.h ht hk
  rw [hr] at h1
  cases h1
  obtain ⟨a1, a2, a3, a4, a5, a6, a7, a8, a9, a10, a11, a12, a13⟩ := h2
  refine hX.hup ht hk ⟨rfl, rfl, rfl, rfl, rfl, rfl, fun u hu => ⟨rfl, rfl, rfl, rfl, fset_n hu, rfl⟩⟩ ⟨a1, a2, a3, a4, a5, a6, a7, a8, a9, a10, fun k hk2 => ?_, a12, a13⟩
  show F k = fset (P_slot P) t G t k
  rw [fset_s]
  exact hF k hk2
noncomputable def rbP (P : PT) (f : Nat) : PT := P_slot_ (flS P (P_slot P f) (pm P f) 12) (fset (P_slot P) f (P_slot P (pn P f)))
theorem c_X0_rollsBack (hV : V (l, x, m, sc) w) (hX : XP x a P D) (hI : PI P) {f : Nat} (hf : f < 20) (hk : fK (P_kind P f)) (h0 : P_prev P f = -1 → QR (some (vI (-3))) w) (h : ¬ P_prev P f = -1 → ∀ x' w', V (l, x', m, sc) w' → XP x' a (rbP P f) (fset D f []) → XK x x' → QR (some (vI (nI (cn (flB P (P_slot P f) (pm P f)) 12)))) w') : ct KX0_rollsBack 1 8 [vR (some (L_ad l 0)), vR (some (a.1 f))] w QR QX := by
  refine st_X0_rollsBack (sg_X0_rollsBack_0 ⟨fun e => (by cases e), fun q0 e => ?_⟩)
  cases e
  obtain ⟨s, hs, hsr⟩ := hX.h hf (Or.inl hk)
  rcases hI.p hf (Or.inl hk) with e | ⟨p, hp, e, hsp⟩
  · exact ⟨_, x_prevN hV hX hf (cI_f hk) e, fun _ => h0 e, fun q z => (by cases z)⟩
  · refine ⟨_, x_prevS hV hX hf (cI_f hk) hp e, fun z => (by cases z), fun q z => ⟨hV.xO, c_X0_freesLive hV hX (S := P_slot P f) (pv := pm P f) hs (hsr.c (cI_f hk)) hsr.2.2.2.2.2.2.2.2.2.2.1 (fun k hk2 => hI.s f k hf hk2) (hsr.pv hI hf (Or.inl hk)) (fun x1 w1 h1 X1 K1 e1 => ⟨_, rfl, ?_⟩)⟩⟩
    obtain ⟨f1, f2, f3, f4, f5, f6, f7, f8, f9⟩ := flS_e P (P_slot P f) (pm P f) 12
    have hk1 : fK (P_kind (flS P (P_slot P f) (pm P f) 12) f) := by rw [f2]; exact hk
    have hsp1 : sK (P_kind (flS P (P_slot P f) (pm P f) 12) p) := by rw [f2]; exact hsp
    obtain ⟨r1, g1, g2⟩ := X1.h hf (Or.inl hk1)
    obtain ⟨r2, g3, g4⟩ := X1.h hp (Or.inr hsp1)
    have hpf : p ≠ f := fun z => by rw [z] at hsp; exact f_ns hk hsp
    refine ⟨_, x_prevS h1 X1 hf (cI_f hk1) hp (by rw [f4]; exact e), x_ck h1 X1 hf (cI_f hk1), c_X4_takesSlots h1 g1 g3 (fun z => hpf (X1.inj hp hf (Or.inr hsp1) (Or.inl hk1) z)) (fun w2 F h2 hF => ⟨rfl, ?_⟩)⟩
    have X2 := X1.slotsRow hf (Or.inl hk1) g1 (F := F) (G := P_slot P (pn P f)) (fun k hk2 => by
      rw [hF k hk2, g4.2.2.2.2.2.2.2.2.2.2.1 k hk2, f8, pn_n hp e])
    rw [f8] at X2
    refine w_dm (n := 0) h2 X2 hf (cI_f hk1) (Nat.zero_le _) (fun x3 w3 h3 X3 K3 => h (by rw [e]; exact m1_ne p (by omega)) x3 w3 h3 ?_ ((K1.tr (XK.hup (r' := R_slots_ r1 F) g1 rfl rfl rfl rfl rfl (fun _ => rfl))).tr K3))
    rw [DT_take] at X3
    exact X3
def rbR (P : PT) (D : DT) (i v : Int32) (P' : PT) (D' : DT) : Prop := (¬ ask P i 0 = 0 ∧ v = ask P i 0 ∧ P' = P ∧ D' = D) ∨ ∃ f : Nat, f < 20 ∧ i = nI f ∧ fK (P_kind P f) ∧ ((P_prev P f = -1 ∧ v = -3 ∧ P' = P ∧ D' = D) ∨ (¬ P_prev P f = -1 ∧ v = nI (cn (flB P (P_slot P f) (pm P f)) 12) ∧ P' = rbP P f ∧ D' = fset D f []))
theorem c_X0_rollback (hV : V (l, x, m, sc) w) (hX : XP x a P D) (hI : PI P) {i : Int32} (h : ∀ x' w' v P' D', rbR P D i v P' D' → V (l, x', m, sc) w' → XP x' a P' D' → XK x x' → QR (some (vI v)) w') : ct KX0_rollback 4 960 [vR (some (L_ad l 0)), vI i] w QR QX := by
  have no : ∀ v, ¬ v = 0 → ask P i 0 = v → QR (some (vI v)) w := fun v c e => h x w v P D (Or.inl ⟨by rw [e]; exact c, e.symm, rfl, rfl⟩) hV hX (XK.rf x)
  refine st_X0_rollback (sg_X0_rollback_0 ⟨by decide, by decide, hV.xO, c_X0_thingAt hV hX hI (fun t ht e => ⟨_, rfl, fun z => ?_, fun q z => ?_⟩) (fun z => ⟨rfl, no _ (by decide) (ask_out z)⟩)⟩)
  · subst e
    exact ⟨by decide, by decide, hV.xO, st_X0_rollsBack (sg_X0_rollsBack_0 ⟨fun _ => ⟨Nat.le_refl _, Nat.le_refl _, rfl, no _ (by decide) (ask_none ht (thO_none z))⟩, fun q y => (by cases y)⟩)⟩
  · subst e
    obtain ⟨hn, rfl⟩ := thO_some z
    by_cases cf : fK (P_kind P t)
    · exact Or.inl ⟨x_ck hV hX ht (cI_f cf), by decide, by decide, hV.xO, c_X0_rollsBack hV hX hI ht cf (fun e => ⟨_, rfl, h x w _ P D (Or.inr ⟨t, ht, rfl, cf, Or.inl ⟨e, rfl, rfl, rfl⟩⟩) hV hX (XK.rf x)⟩) (fun e x1 w1 h1 X1 K1 => ⟨_, rfl, h x1 w1 _ _ _ (Or.inr ⟨t, ht, rfl, cf, Or.inr ⟨e, rfl, rfl, rfl⟩⟩) h1 X1 K1⟩)⟩
    · exact Or.inr ⟨x_cka hV hX hI ht hn (ci_nf hI ht hn cf), by decide, by decide, no _ (by decide) (ask_bad ht hn (fun y => cf ((uKd_0 _).mp y)))⟩
end XE
