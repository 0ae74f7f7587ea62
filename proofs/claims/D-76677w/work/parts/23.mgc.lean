/-! ===== the reference: counts, frees, and all that changes the row ===== -/
/-- m' is m but for its scratch, and holds P -/
def MRw (m : MT) (P : PT) (m' : MT) : Prop := Enc (M_s m') P ∧ M_image m' = M_image m ∧ M_frame m' = M_frame m ∧ M_hasImage m' = M_hasImage m ∧ M_sorts m' = M_sorts m ∧ M_msizes m' = M_msizes m ∧ M_items m' = M_items m ∧ M_lot m' = M_lot m
/-- .. but for holds, and holds P -/
def MR (m : MT) (P : PT) (m' : MT) : Prop := MRw m P m' ∧ M_newest m' = M_newest m ∧ M_owns m' = M_owns m ∧ M_holders m' = M_holders m
theorem MRw.rf {m : MT} {P : PT} (h : Enc (M_s m) P) : MRw m P m := ⟨h, rfl, rfl, rfl, rfl, rfl, rfl, rfl⟩
theorem MRw.tr {m m1 m2 : MT} {P Q : PT} (h : MRw m P m1) (k : MRw m1 Q m2) : MRw m Q m2 :=
  ⟨k.1, k.2.1.trans h.2.1, k.2.2.1.trans h.2.2.1, k.2.2.2.1.trans h.2.2.2.1, k.2.2.2.2.1.trans h.2.2.2.2.1, k.2.2.2.2.2.1.trans h.2.2.2.2.2.1, k.2.2.2.2.2.2.1.trans h.2.2.2.2.2.2.1, k.2.2.2.2.2.2.2.trans h.2.2.2.2.2.2.2⟩
theorem MRw.nn {m m1 : MT} {P : PT} {f : Nat → Int32} (h : MRw m P m1) : MRw m P (M_newest_ m1 f) := h
theorem MRw.oo {m m1 : MT} {P : PT} {x : Int32} (h : MRw m P m1) : MRw m P (M_owns_ m1 x) := h
theorem MRw.rr {m m1 : MT} {P : PT} {f : Nat → Int32} (h : MRw m P m1) : MRw m P (M_holders_ m1 f) := h
theorem MR.e {m : MT} {P : PT} {m' : MT} (h : MR m P m') : Enc (M_s m') P := h.1.1
theorem MR.rf {m : MT} {P : PT} (h : Enc (M_s m) P) : MR m P m := ⟨MRw.rf h, rfl, rfl, rfl⟩
theorem MR.tr {m m1 m2 : MT} {P Q : PT} (h : MR m P m1) (k : MR m1 Q m2) : MR m Q m2 :=
  ⟨h.1.tr k.1, k.2.1.trans h.2.1, k.2.2.1.trans h.2.2.1, k.2.2.2.trans h.2.2.2⟩
theorem MR.ss {m m1 : MT} {P Q : PT} {s' : Nat → Int32} (h : MR m P m1) (e : Enc s' Q) : MR m Q (M_s_ m1 s') := ⟨⟨e, h.1.2⟩, h.2⟩
theorem MR.hh {m m1 : MT} {P : PT} {f : Nat → Int32} (h : MR m P m1) : MR m P (M_holds_ m1 f) := h
/-- sums of numbers -/
def cs (f : Nat → Nat) : Nat → Nat
  | 0 => 0
  | n + 1 => cs f n + f n
theorem cs_le (f : Nat → Nat) (N : Nat) (h : ∀ i, f i ≤ N) : ∀ n, cs f n ≤ N * n := by
  intro n
  induction n with
  | zero => exact Nat.zero_le _
  | succ n ih =>
    show cs f n + f n ≤ N * (n + 1)
    have := h n
    rw [Nat.mul_add]
    omega
def hPd (P : PT) (b t k : Nat) : Prop := hK (P_kind P t) ∧ P_slot P t k = nI b
noncomputable def hCt (P : PT) (b t k : Nat) : Nat := cs (fun u => cn (hPd P b u) 12) t + cn (hPd P b t) k
noncomputable def hCn (P : PT) (b : Nat) : Nat := cs (fun u => cn (hPd P b u) 12) 20
theorem hCt_le (P : PT) (b t k : Nat) (ht : t < 20) (hk : k ≤ 12) : hCt P b t k ≤ 240 := by
  unfold hCt
  have h1 := cs_le (fun u => cn (hPd P b u) 12) 12 (fun i => cn_le _ _) t
  have h2 := cn_le (hPd P b t) k
  omega
theorem hCn_le (P : PT) (b : Nat) : hCn P b ≤ 240 := cs_le (fun u => cn (hPd P b u) 12) 12 (fun i => cn_le _ _) 20
theorem cn_none {p : Nat → Prop} {n : Nat} (h : ∀ i, i < n → ¬ p i) : cn p n = 0 := by
  induction n with
  | zero => rfl
  | succ n ih =>
    rw [cn_f (h n (by omega)), ih (fun i hi => h i (by omega))]
theorem cn_0 {p : Nat → Prop} {n : Nat} (h : cn p n = 0) : ∀ i, i < n → ¬ p i := by
  induction n with
  | zero => intro i hi; omega
  | succ n ih =>
    intro i hi hp
    by_cases hn : p n
    · rw [cn_t hn] at h
      omega
    · rw [cn_f hn] at h
      rcases Nat.lt_or_ge i n with z | z
      · exact ih h i z hp
      · have : i = n := by omega
        subst this
        exact hn hp
theorem cs_0 {f : Nat → Nat} {n : Nat} (h : cs f n = 0) : ∀ i, i < n → f i = 0 := by
  induction n with
  | zero => intro i hi; omega
  | succ n ih =>
    intro i hi
    have h' : cs f n + f n = 0 := h
    rcases Nat.lt_or_ge i n with z | z
    · exact ih (by omega) i z
    · have : i = n := by omega
      subst this
      omega
theorem cs_none {f : Nat → Nat} {n : Nat} (h : ∀ i, i < n → f i = 0) : cs f n = 0 := by
  induction n with
  | zero => rfl
  | succ n ih =>
    show cs f n + f n = 0
    rw [ih (fun i hi => h i (by omega)), h n (by omega)]
/-- nothing holds a block -/
def unh (P : PT) (b : Nat) : Prop := ∀ t k, t < 20 → k < 12 → hK (P_kind P t) → ¬ P_slot P t k = nI b
theorem hCn_0 {P : PT} {b : Nat} : hCn P b = 0 ↔ unh P b := by
  constructor
  · intro h t k ht hk h1 h2
    exact cn_0 (cs_0 h t ht) k hk ⟨h1, h2⟩
  · intro h
    exact cs_none (fun t ht => cn_none (fun k hk z => h t k ht hk z.1 z.2))
def gcB (P : PT) (b : Nat) : Prop := ¬ P_size P b ≤ 0 ∧ unh P b
noncomputable def gcS (P : PT) (n : Nat) : Nat → Int32 := fun b => @ite Int32 (b < n ∧ gcB P b) (Classical.propDecidable _) 0 (P_size P b)
theorem gcS_0 (P : PT) : gcS P 0 = P_size P := by
  funext b
  exact @if_neg _ (Classical.propDecidable _) (fun z => by omega) _ _ _
theorem gcS_f {P : PT} {n : Nat} (h : ¬ gcB P n) : gcS P (n + 1) = gcS P n := by
  funext b
  unfold gcS
  by_cases c : b < n ∧ gcB P b
  · rw [if_pos c, if_pos ⟨by omega, c.2⟩]
  · rw [if_neg c, if_neg]
    rintro ⟨z1, z2⟩
    by_cases e : b = n
    · subst e
      exact h z2
    · exact c ⟨by omega, z2⟩
theorem gcS_t {P : PT} {n : Nat} (h : gcB P n) : gcS P (n + 1) = fset (gcS P n) n 0 := by
  funext b
  by_cases e : b = n
  · subst e
    rw [fset_s]
    exact @if_pos _ (Classical.propDecidable _) ⟨by omega, h⟩ _ _ _
  · rw [fset_n e]
    unfold gcS
    by_cases c : b < n ∧ gcB P b
    · rw [if_pos c, if_pos ⟨by omega, c.2⟩]
    · rw [if_neg c, if_neg]
      rintro ⟨z1, z2⟩
      exact c ⟨by omega, z2⟩
theorem gcS_at (P : PT) (n : Nat) : gcS P n n = P_size P n := @if_neg _ (Classical.propDecidable _) (fun z => by omega) _ _ _
/-- how many are freed, and what then is -/
noncomputable def gcN (P : PT) : Nat := cn (gcB P) 96
noncomputable def gcP (P : PT) : PT := P_freed_ (P_size_ P (gcS P 96)) (P_freed P + nI (gcN P))
/-- how many of eight bits are set -/
noncomputable def pc8 (x : Int32) : Nat := cn (fun k => tb x k = true) 8
theorem P_slot_gs (P : PT) (F : Nat → Nat → Int32) : P_slot (P_slot_ P F) = F := rfl
theorem P_slot_ss (P : PT) (F F' : Nat → Nat → Int32) : P_slot_ (P_slot_ P F) F' = P_slot_ P F' := by
  obtain ⟨a, b, c, d, e, f, h, i, j, k, l⟩ := P
  rfl
theorem Enc.slot_cg {s : Nat → Int32} {P : PT} {F F' : Nat → Nat → Int32} (h : Enc s (P_slot_ P F)) (e : ∀ j i, j < 20 → i < 12 → F j i = F' j i) : Enc s (P_slot_ P F') := by
  obtain ⟨a1, a2, a3, a4, a5, a6, a7, a8, a9, a10⟩ := h
  exact ⟨a1, a2, a3, a4, a5, a6, a7, a8, fun j i hj hi => (a9 j i hj hi).trans (e j i hj hi), a10⟩
section MG
variable {g : GT} {w : aW} {P : PT} {QR : Option aV → aW → Prop} {QX : String → aW → Prop} {rc rs : Nat}
theorem lp_counts1 (h : ∀ m' w', V (G_M_ g m') w' → MR (G_M g) P m' → (∀ b, b < 96 → M_holds m' b = 0) → wp KX3_counts rc rs QR QX 23 [(0, vR (some (g_m g))), (1, vI 0)] [] w') : ∀ n k m1 w1, k + n = 96 → V (G_M_ g m1) w1 → MR (G_M g) P m1 → (∀ b, b < k → M_holds m1 b = 0) → wp KX3_counts rc rs QR QX 2 [(0, vR (some (g_m g))), (1, vI (nI k))] [] w1 := by
  intro n
  induction n with
  | zero =>
    intro k m1 w1 hk hV hM hz
    refine sg_X3_counts_2 (lpc (N := 96) rfl (by decide) hk (fun _ => ?_) (fun m e => by omega))
    have : k = 96 := by omega
    subst this
    exact h m1 w1 hV hM hz
  | succ n ih =>
    intro k m1 w1 hk hV hM hz
    refine sg_X3_counts_2 (lpc (N := 96) rfl (by decide) hk (fun e => by omega) (fun m e hk2 => ⟨_, hV.mf_holds, hV.mp_holds (vp_in_nI hk2 (by decide)) (fun w2 h2 => ?_)⟩))
    rw [nI_clamp (by omega)] at h2
    rw [nI_1]
    refine ih (k + 1) _ w2 (by omega) h2 hM.hh (fun b hb => ?_)
    show upd (M_holds m1) k 0 b = 0
    by_cases e : b = k
    · rw [e, pk_us]
    · rw [pk_un e]
      exact hz b (by omega)
theorem lp_counts3 (hO : SO P) {t : Nat} (ht : t < 20) (h : ∀ m' w', V (G_M_ g m') w' → MR (G_M g) P m' → (∀ b, b < 96 → M_holds m' b = nI (hCt P b (t + 1) 0)) → wp KX3_counts rc rs QR QX 23 [(0, vR (some (g_m g))), (1, vI (nI (t + 1)))] [] w') : ∀ n k m1 w1, k + n = 12 → V (G_M_ g m1) w1 → MR (G_M g) P m1 → (∀ b, b < 96 → M_holds m1 b = nI (hCt P b t k)) → wp KX3_counts rc rs QR QX 31 [(0, vR (some (g_m g))), (1, vI (nI t)), (2, vI (nI k))] [] w1 := by
  have hend : ∀ b, hCt P b (t + 1) 0 = hCt P b t 12 := fun b => rfl
  intro n
  induction n with
  | zero =>
    intro k m1 w1 hk hV hM hz
    refine sg_X3_counts_31 (lpc (N := 12) rfl (by decide) hk (fun _ => ?_) (fun m e => by omega))
    have : k = 12 := by omega
    subst this
    rw [nI_1]
    exact h m1 w1 hV hM (fun b hb => (hz b hb).trans (by rw [hend]))
  | succ n ih =>
    intro k m1 w1 hk hV hM hz
    refine sg_X3_counts_31 (lpc (N := 12) rfl (by decide) hk (fun e => by omega) (fun m e hk2 => ⟨hV.mO, c_X3_hasSlots_n hV hM.e ht ⟨_, rfl, fun c => ?_, fun c => ⟨_, hV.mf_s, _, g_slot hV hM.e ht hk2, fun c2 => ?_, fun c2 => ?_⟩⟩⟩))
    · rw [nI_1]
      refine h m1 w1 hV hM (fun b hb => (hz b hb).trans ?_)
      rw [hend]
      unfold hCt
      have e : ∀ j, cn (hPd P b t) j = 0 := fun j => cn_none (fun i _ z => b2i_0.mp c z.1)
      rw [e, e]
    · rw [nI_1]
      refine ih (k + 1) m1 w1 (by omega) hV hM (fun b hb => (hz b hb).trans ?_)
      unfold hCt
      rw [cn_f]
      rintro ⟨-, z⟩
      rw [c2] at z
      exact m1_ne b (by omega) z.symm
    · rcases hO t k ht hk2 with z | ⟨b, hb, z⟩
      · exact absurd z c2
      · rw [z]
        have gh := hV.mg_holds (vp_in_nI hb (by decide))
        refine ⟨_, hV.mf_holds, _, gh, hV.mp_holds (vp_in_nI hb (by decide)) (fun w2 h2 => ?_)⟩
        rw [nI_clamp (by omega)] at h2
        rw [nI_1]
        refine ih (k + 1) _ w2 (by omega) h2 hM.hh (fun a ha => ?_)
        show upd (M_holds m1) b (M_holds m1 b + 1) a = _
        by_cases e : a = b
        · subst e
          rw [pk_us, hz a ha, nI_1]
          unfold hCt
          rw [cn_t (show hPd P a t k from ⟨b2i_n0.mp c, z⟩)]
          rfl
        · rw [pk_un e, hz a ha]
          unfold hCt
          rw [cn_f]
          rintro ⟨-, y⟩
          rw [z] at y
          exact e ((nI_eq (by omega) (by omega)).mp y).symm
theorem lp_counts2 (hO : SO P) (h : ∀ m' w', V (G_M_ g m') w' → MR (G_M g) P m' → (∀ b, b < 96 → M_holds m' b = nI (hCn P b)) → QR none w') : ∀ n t m1 w1, t + n = 20 → V (G_M_ g m1) w1 → MR (G_M g) P m1 → (∀ b, b < 96 → M_holds m1 b = nI (hCt P b t 0)) → wp KX3_counts rc rs QR QX 23 [(0, vR (some (g_m g))), (1, vI (nI t))] [] w1 := by
  intro n
  induction n with
  | zero =>
    intro t m1 w1 hk hV hM hz
    refine sg_X3_counts_23 (lpc (N := 20) rfl (by decide) hk (fun _ => ?_) (fun m e => by omega))
    have : t = 20 := by omega
    subst this
    exact h m1 w1 hV hM hz
  | succ n ih =>
    intro t m1 w1 hk hV hM hz
    refine sg_X3_counts_23 (lpc (N := 20) rfl (by decide) hk (fun e => by omega) (fun m e hk2 => ?_))
    exact lp_counts3 hO hk2 (fun m2 w2 h2 hM2 hz2 => ih (t + 1) m2 w2 (by omega) h2 hM2 hz2) 12 0 m1 w1 rfl hV hM hz
theorem c_X3_counts (hV : V g w) (hE : EG g P) (hO : SO P) (h : ∀ m' w', V (G_M_ g m') w' → MR (G_M g) P m' → (∀ b, b < 96 → M_holds m' b = nI (hCn P b)) → QR none w') : ct KX3_counts 0 0 [vR (some (g_m g))] w QR QX :=
  st_X3_counts (sg_X3_counts_0 (lp_counts1 (P := P) (fun m1 w1 h1 hM hz => lp_counts2 hO h 20 0 m1 w1 rfl h1 hM hz) 96 0 (G_M g) w rfl hV (MR.rf hE) (fun b hb => by omega)))
theorem SO.size {f : Nat → Int32} (h : SO P) : SO (P_size_ P f) := h
theorem lp_frees (h : ∀ m' w', V (G_M_ g m') w' → MR (G_M g) (gcP P) m' → QR (some (vI (nI (gcN P)))) w') : ∀ n k m1 w1, k + n = 96 → V (G_M_ g m1) w1 → MR (G_M g) (P_size_ P (gcS P k)) m1 → (∀ b, b < 96 → M_holds m1 b = nI (hCn P b)) → wp KX3_frees rc rs QR QX 8 [(0, vR (some (g_m g))), (1, vI (nI (cn (gcB P) k))), (2, vI (nI k))] [] w1 := by
  intro n
  induction n with
  | zero =>
    intro k m1 w1 hk hV hM hz
    refine sg_X3_frees_8 (lpc (N := 96) rfl (by decide) hk (fun _ => ⟨_, hV.mf_s, _, g_freed hV hM.e, p_freed hV hM.e (fun s' w' h2 hE2 => ?_)⟩) (fun m e => by omega))
    have : k = 96 := by omega
    subst this
    exact h _ w' h2 (hM.ss hE2)
  | succ n ih =>
    intro k m1 w1 hk hV hM hz
    have e0 : P_size (P_size_ P (gcS P k)) k = P_size P k := gcS_at P k
    refine sg_X3_frees_8 (lpc (N := 96) rfl (by decide) hk (fun e => by omega) (fun m e hk2 => ⟨_, hV.mf_s, _, g_size hV hM.e hk2, fun c => ?_, fun c => ⟨_, hV.mf_holds, _, hV.mg_holds (vp_in_nI hk2 (by decide)), fun c2 => ?_, fun c2 => ⟨_, hV.mf_s, p_size hV hM.e hk2 (fun s' w' h2 hE2 => ?_)⟩⟩⟩))
    · rw [e0] at c
      have hb : ¬ gcB P k := fun z => z.1 c
      have := ih (k + 1) m1 w1 (by omega) hV (by rw [gcS_f hb]; exact hM) hz
      rw [cn_f hb] at this
      rw [nI_1]
      exact this
    · have c2' : ¬ M_holds m1 k = 0 := by
        rw [nI_clamp (by omega)] at c2
        exact c2
      have hb : ¬ gcB P k := by
        intro z
        rw [hz k hk2, hCn_0.mpr z.2] at c2'
        exact c2' rfl
      have := ih (k + 1) m1 w1 (by omega) hV (by rw [gcS_f hb]; exact hM) hz
      rw [cn_f hb] at this
      rw [nI_1]
      exact this
    · have c2' : M_holds m1 k = 0 := by
        rw [nI_clamp (by omega)] at c2
        exact c2
      rw [e0] at c
      have hb : gcB P k := by
        refine ⟨c, hCn_0.mp ?_⟩
        rw [hz k hk2] at c2'
        exact (nI_eq (b := 0) (by have := hCn_le P k; omega) (by decide)).mp c2'
      have := ih (k + 1) _ w' (by omega) h2 (by rw [gcS_t hb]; exact hM.ss hE2) hz
      rw [cn_t hb] at this
      rw [nI_1, nI_1]
      exact this
theorem c_X3_frees (hV : V g w) (hE : EG g P) (hO : SO P) (h : ∀ m' w', V (G_M_ g m') w' → MR (G_M g) (gcP P) m' → QR (some (vI (nI (gcN P)))) w') : ct KX3_frees 0 0 [vR (some (g_m g))] w QR QX :=
  st_X3_frees (sg_X3_frees_0 ⟨hV.mO, c_X3_counts hV hE hO (fun m1 w1 h1 hM hz => ⟨rfl, lp_frees h 96 0 m1 w1 rfl h1 (by rw [gcS_0]; exact hM) hz⟩)⟩)
theorem lp_takesSlots {t u : Nat} (ht : t < 20) (hu : u < 20) (h : ∀ m' w', V (G_M_ g m') w' → MR (G_M g) (P_slot_ P (fset (P_slot P) t (P_slot P u))) m' → QR none w') : ∀ n k m1 w1, k + n = 12 → V (G_M_ g m1) w1 → MR (G_M g) (P_slot_ P (fset (P_slot P) t (fun i => if i < k then P_slot P u i else P_slot P t i))) m1 → wp KX3_takesSlots rc rs QR QX 2 [(0, vR (some (g_m g))), (1, vI (nI t)), (2, vI (nI u)), (3, vI (nI k))] [] w1 := by
  intro n
  induction n with
  | zero =>
    intro k m1 w1 hk hV hM
    refine sg_X3_takesSlots_2 (lpc (N := 12) rfl (by decide) hk (fun _ => ?_) (fun m e => by omega))
    have : k = 12 := by omega
    subst this
    refine h m1 w1 hV ⟨⟨hM.e.slot_cg (fun j i hj hi => ?_), hM.1.2⟩, hM.2⟩
    by_cases e : j = t
    · subst e
      rw [fset_s, fset_s, if_pos hi]
    · rw [fset_n e, fset_n e]
  | succ n ih =>
    intro k m1 w1 hk hV hM
    refine sg_X3_takesSlots_2 (lpc (N := 12) rfl (by decide) hk (fun e => by omega) (fun m e hk2 => ⟨_, hV.mf_s, _, hV.mf_s, _, g_slot hV hM.e hu hk2, p_slot hV hM.e ht hk2 (fun s' w' h2 hE2 => ?_)⟩))
    rw [nI_1]
    refine ih (k + 1) _ w' (by omega) h2 ?_
    have e3 : fset (P_slot P) t (fun i => if i < k + 1 then P_slot P u i else P_slot P t i) = fset2 (fset (P_slot P) t (fun i => if i < k then P_slot P u i else P_slot P t i)) t k (fset (P_slot P) t (fun i => if i < k then P_slot P u i else P_slot P t i) u k) := by
      funext j i
      by_cases e : j = t
      · subst e
        by_cases e4 : i = k
        · subst e4
          rw [fset2_s, fset_s, if_pos (by omega)]
          by_cases e5 : u = j
          · subst e5
            rw [fset_s, if_neg (by omega)]
          · rw [fset_n e5]
        · rw [fset2_n (fun z => e4 z.2), fset_s, fset_s]
          by_cases c : i < k
          · rw [if_pos c, if_pos (by omega)]
          · rw [if_neg c, if_neg (by omega)]
      · rw [fset_n e, fset2_n (fun z => e z.1), fset_n e]
    rw [e3]
    rw [P_slot_gs, P_slot_ss] at hE2
    exact hM.ss hE2
theorem c_X3_takesSlots (hV : V g w) (hE : EG g P) {t u : Nat} (ht : t < 20) (hu : u < 20) (h : ∀ m' w', V (G_M_ g m') w' → MR (G_M g) (P_slot_ P (fset (P_slot P) t (P_slot P u))) m' → QR none w') : ct KX3_takesSlots 0 0 [vR (some (g_m g)), vI (nI t), vI (nI u)] w QR QX := by
  refine st_X3_takesSlots (sg_X3_takesSlots_0 (lp_takesSlots (P := P) ht hu h 12 0 (G_M g) w rfl hV ?_))
  have e : fset (P_slot P) t (fun i => if i < 0 then P_slot P u i else P_slot P t i) = P_slot P := by
    funext j i
    by_cases c : j = t
    · subst c
      rw [fset_s, if_neg (by omega)]
    · rw [fset_n c]
  rw [e]
  exact MR.rf hE
/-- a new thing at t -/
def cmP (P : PT) (t : Nat) (kind made : Int32) : PT := P_slot_ (P_tags_ (P_quota_ (P_owner_ (P_prev_ (P_made_ (P_kind_ P (fset (P_kind P) t kind)) (fset (P_made P) t made)) (fset (P_prev P) t (-1))) (fset (P_owner P) t (-1))) (fset (P_quota P) t (-1))) (fset (P_tags P) t 0)) (fset (P_slot P) t (fun _ => -1))
theorem lp_comes {t : Nat} (ht : t < 20) {i1 i2 : Int32} (h : ∀ m' w', V (G_M_ g m') w' → MR (G_M g) (P_slot_ P (fset (P_slot P) t (fun _ => -1))) m' → QR (some (vI (nI t))) w') : ∀ n k m1 w1, k + n = 12 → V (G_M_ g m1) w1 → MR (G_M g) (P_slot_ P (fset (P_slot P) t (fun i => if i < k then -1 else P_slot P t i))) m1 → wp KX3_comes rc rs QR QX 67 [(0, vR (some (g_m g))), (1, vI i1), (2, vI i2), (3, vI (nI t)), (4, vI (nI k))] [] w1 := by
  intro n
  induction n with
  | zero =>
    intro k m1 w1 hk hV hM
    refine sg_X3_comes_67 (lpc (N := 12) rfl (by decide) hk (fun _ => ?_) (fun m e => by omega))
    have : k = 12 := by omega
    subst this
    refine h m1 w1 hV ⟨⟨hM.e.slot_cg (fun j i hj hi => ?_), hM.1.2⟩, hM.2⟩
    by_cases e : j = t
    · subst e
      rw [fset_s, fset_s, if_pos hi]
    · rw [fset_n e, fset_n e]
  | succ n ih =>
    intro k m1 w1 hk hV hM
    refine sg_X3_comes_67 (lpc (N := 12) rfl (by decide) hk (fun e => by omega) (fun m e hk2 => ⟨_, hV.mf_s, p_slot hV hM.e ht hk2 (fun s' w' h2 hE2 => ?_)⟩))
    rw [nI_1]
    refine ih (k + 1) _ w' (by omega) h2 ?_
    have e3 : fset (P_slot P) t (fun i => if i < k + 1 then -1 else P_slot P t i) = fset2 (fset (P_slot P) t (fun i => if i < k then -1 else P_slot P t i)) t k (-1) := by
      funext j i
      by_cases e : j = t
      · subst e
        by_cases e4 : i = k
        · subst e4
          rw [fset2_s, fset_s, if_pos (by omega)]
        · rw [fset2_n (fun z => e4 z.2), fset_s, fset_s]
          by_cases c : i < k
          · rw [if_pos c, if_pos (by omega)]
          · rw [if_neg c, if_neg (by omega)]
      · rw [fset_n e, fset2_n (fun z => e z.1), fset_n e]
    rw [e3]
    rw [P_slot_gs, P_slot_ss] at hE2
    exact hM.ss hE2
theorem c_X3_comes (hV : V g w) (hE : EG g P) (hT : lT P < 20) {kind made : Int32} (h : ∀ m' w', V (G_M_ g m') w' → MR (G_M g) (cmP P (lT P) kind made) m' → QR (some (vI (nI (lT P)))) w') : ct KX3_comes 0 0 [vR (some (g_m g)), vI kind, vI made] w QR QX := by
  refine st_X3_comes (sg_X3_comes_0 ⟨hV.mO, c_X3_newThing hV hE ⟨_, rfl, _, hV.mf_s, p_kind hV hE hT (fun s1 w1 h1 e1 => ⟨_, h1.mf_s, p_made h1 e1 hT (fun s2 w2 h2 e2 => ⟨_, h2.mf_s, p_prev h2 e2 hT (fun s3 w3 h3 e3 => ⟨_, h3.mf_s, p_owner h3 e3 hT (fun s4 w4 h4 e4 => ⟨_, h4.mf_s, p_quota h4 e4 hT (fun s5 w5 h5 e5 => ⟨_, h5.mf_s, p_tags h5 e5 hT (fun s6 w6 h6 e6 => ?_)⟩)⟩)⟩)⟩)⟩)⟩⟩)
  refine lp_comes (g := g) hT (P := P_tags_ (P_quota_ (P_owner_ (P_prev_ (P_made_ (P_kind_ P (fset (P_kind P) (lT P) kind)) (fset (P_made P) (lT P) made)) (fset (P_prev P) (lT P) (-1))) (fset (P_owner P) (lT P) (-1))) (fset (P_quota P) (lT P) (-1))) (fset (P_tags P) (lT P) 0)) (fun m' w' h7 hM => h m' w' h7 hM) 12 0 _ w6 rfl h6 ?_
  have e : fset (P_slot P) (lT P) (fun i => if i < 0 then -1 else P_slot P (lT P) i) = P_slot P := by
    funext j i
    by_cases c : j = lT P
    · subst c
      rw [fset_s, if_neg (by omega)]
    · rw [fset_n c]
  show MR (G_M g) (P_slot_ _ (fset (P_slot P) (lT P) (fun i => if i < 0 then -1 else P_slot P (lT P) i))) _
  rw [e]
  exact ((MR.rf hE).ss e6)
theorem lp_countOf {x : Int32} (h : QR (some (vI (nI (pc8 x)))) w) : ∀ n k, k + n = 8 → wp KX3_countOf rc rs QR QX 4 [(0, vR (some (g_m g))), (1, vI x), (2, vI (nI (cn (fun k => tb x k = true) k))), (3, vI (nI k))] [] w := by
  intro n
  induction n with
  | zero =>
    intro k hk
    refine sg_X3_countOf_4 (lpc (N := 8) rfl (by decide) hk (fun _ => ?_) (fun m e => by omega))
    have : k = 8 := by omega
    subst this
    exact h
  | succ n ih =>
    intro k hk
    have ih1 := ih (k + 1) (by omega)
    refine sg_X3_countOf_4 (lpc (N := 8) rfl (by decide) hk (fun e => by omega) (fun m e hk2 => ?_))
    rw [bit_e (by omega), nI_1]
    by_cases c : tb x k = true
    · rw [if_pos c, nI_1]
      rw [cn_t (p := fun k => tb x k = true) c] at ih1
      exact ih1
    · rw [if_neg c, i_0]
      rw [cn_f (p := fun k => tb x k = true) c] at ih1
      exact ih1
theorem c_X3_countOf {x : Int32} (h : QR (some (vI (nI (pc8 x)))) w) : ct KX3_countOf 0 0 [vR (some (g_m g)), vI x] w QR QX :=
  st_X3_countOf (sg_X3_countOf_0 (lp_countOf h 8 0 rfl))
noncomputable def r_block (P : PT) (b what : Int32) : Int32 := if inI what 0 2 then (if inI b 0 95 then (if P_size P b.toNatClampNeg = 0 then -11 else if what = 0 then P_size P b.toNatClampNeg else if what = 1 then P_birth P b.toNatClampNeg else nI (hCn P b.toNatClampNeg)) else -12) else -2
theorem c_X3_block (hV : V g w) (hE : EG g P) (hO : SO P) {x what : Int32} (h : ∀ m' w', V (G_M_ g m') w' → MR (G_M g) P m' → QR (some (vI (r_block P x what))) w') : ct KX3_block 0 0 [vR (some (g_m g)), vI x, vI what] w QR QX := by
  have h0 := h (G_M g) w hV (MR.rf hE)
  refine st_X3_block (sg_X3_block_0 (c_X3_in ⟨_, rfl, fun c => c_X3_in ⟨_, rfl, fun c2 => ?_, fun c2 => ?_⟩, fun c => ?_⟩))
  · have c1 := b2i_n0.mp c
    have c3 := b2i_n0.mp c2
    obtain ⟨b, hb, rfl⟩ := inI_n (H := 95) c3 rfl rfl (by decide)
    unfold r_block at h h0
    rw [if_pos c1, if_pos c3, nI_clamp (by omega)] at h h0
    refine ⟨_, hV.mf_s, _, g_size hV hE (by omega), fun c4 => ?_, fun c4 => ?_⟩
    · rw [if_neg c4] at h
      refine ⟨hV.mO, c_X3_counts hV hE hO (fun m1 w1 h1 hM hz => ⟨rfl, fun c5 => ⟨fun c6 => ?_, fun c6 => ?_⟩, fun c5 => ?_⟩)⟩
      · refine ⟨_, h1.mf_holds, _, h1.mg_holds (vp_in_nI (by omega) (by decide)), ?_⟩
        have := h m1 w1 h1 hM
        rw [if_neg c5, if_neg c6] at this
        rw [nI_clamp (by omega)]
        show QR (some (vI (M_holds m1 b))) w1
        rw [hz b (by omega)]
        exact this
      · have := h m1 w1 h1 hM
        rw [if_neg c5, if_pos c6] at this
        exact ⟨_, h1.mf_s, _, g_birth h1 hM.e (by omega), this⟩
      · have := h m1 w1 h1 hM
        rw [if_pos c5] at this
        exact ⟨_, h1.mf_s, _, g_size h1 hM.e (by omega), this⟩
    · rwa [if_pos c4] at h0
  · unfold r_block at h0
    rwa [if_pos (b2i_n0.mp c), if_neg (b2i_0.mp c2)] at h0
  · unfold r_block at h0
    rwa [if_neg (b2i_0.mp c)] at h0
end MG
