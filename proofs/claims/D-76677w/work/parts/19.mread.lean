/-! ===== the reference's questions ===== -/
abbrev inR (x : Int32) : Prop := ¬ x < 0 ∧ ¬ 19 < x
theorem inR_n {x : Int32} (h : inR x) : ∃ t : Nat, t < 20 ∧ x = nI t := by
  obtain ⟨h1, h2⟩ := h
  obtain ⟨j, hj, rfl⟩ := nI_of h1
  refine ⟨j, ?_, rfl⟩
  rcases Nat.lt_or_ge j 20 with h | h
  · exact h
  · exfalso
    apply h2
    rw [Int32.lt_iff_toInt_lt, nI_toInt hj]
    have : (19 : Int32).toInt = 19 := by decide
    omega
theorem n_inR {t : Nat} (h : t < 20) : inR (nI t) := by
  constructor
  · exact nI_pos (by omega)
  · rw [show (19 : Int32) = nI 19 from rfl]
    exact nI_nlt (by omega) (by omega)
def kdI (P : PT) (x : Int32) : Int32 := if inR x then P_kind P x.toNatClampNeg else -1
theorem kdI_n {P : PT} {t : Nat} (h : t < 20) : kdI P (nI t) = P_kind P t := by
  unfold kdI
  rw [if_pos (n_inR h), nI_clamp (by omega)]
theorem kdI_o {P : PT} {x : Int32} (h : ¬ inR x) : kdI P x = -1 := if_neg h
abbrev fK (k : Int32) : Prop := k = 0 ∨ k = 1
abbrev sK (k : Int32) : Prop := k = 2 ∨ k = 3
abbrev hK (k : Int32) : Prop := fK k ∨ sK k
abbrev uKd (k j : Int32) : Prop := k = j ∨ (k = 1 ∧ j = 0) ∨ (k = 3 ∧ j = 2)
theorem uKd_0 (k : Int32) : uKd k 0 ↔ fK k := by
  constructor
  · rintro (h | ⟨h, -⟩ | ⟨-, h⟩)
    · exact Or.inl h
    · exact Or.inr h
    · exact absurd h (by decide)
  · rintro (h | h)
    · exact Or.inl h
    · exact Or.inr (Or.inl ⟨h, rfl⟩)
theorem uKd_2 (k : Int32) : uKd k 2 ↔ sK k := by
  constructor
  · rintro (h | ⟨-, h⟩ | ⟨h, -⟩)
    · exact Or.inl h
    · exact absurd h (by decide)
    · exact Or.inr h
  · rintro (h | h)
    · exact Or.inl h
    · exact Or.inr (Or.inr ⟨h, rfl⟩)
theorem hK_m1 {k : Int32} (h : hK k) : ¬ k = -1 := by
  rcases h with (h | h) | (h | h) <;> (rw [h]; decide)
def thr (P : PT) (x : Int32) : Int32 := if inR x then (if kdI P x = -1 then -11 else 0) else -12
def ask (P : PT) (x j : Int32) : Int32 := if thr P x = 0 then (if uKd (kdI P x) j then 0 else -13) else thr P x
def askS (P : PT) (x : Int32) : Int32 := if thr P x = 0 then (if hK (kdI P x) then 0 else -13) else thr P x
theorem thr_0 {P : PT} {x : Int32} : thr P x = 0 ↔ ∃ t : Nat, t < 20 ∧ x = nI t ∧ ¬ P_kind P t = -1 := by
  unfold thr
  by_cases h : inR x
  · obtain ⟨t, ht, rfl⟩ := inR_n h
    rw [if_pos h, kdI_n ht]
    by_cases h2 : P_kind P t = -1
    · rw [if_pos h2]
      constructor
      · intro e
        exact absurd e (by decide)
      · rintro ⟨t', ht', e, h3⟩
        rw [nI_eq (by omega) (by omega)] at e
        subst e
        exact absurd h2 h3
    · rw [if_neg h2]
      exact ⟨fun _ => ⟨t, ht, rfl, h2⟩, fun _ => rfl⟩
  · rw [if_neg h]
    constructor
    · intro e
      exact absurd e (by decide)
    · rintro ⟨t, ht, rfl, -⟩
      exact absurd (n_inR ht) h
section MR
variable {g : GT} {w : aW} {P : PT} {QR : Option aV → aW → Prop} {QX : String → aW → Prop}
theorem c_X3_in {v lo hi : Int32} (h : QR (some (vI (b2i (¬ v < lo ∧ ¬ hi < v)))) w) : ct KX3_in 0 0 [vI v, vI lo, vI hi] w QR QX := by
  refine st_X3_in (sg_X3_in_0 ⟨fun c => ?_, fun c => ⟨fun c2 => ?_, fun c2 => ?_⟩⟩)
  · rwa [b2i_f (fun z => z.1 c)] at h
  · rwa [b2i_f (fun z => z.2 c2)] at h
  · rwa [b2i_t ⟨c, c2⟩] at h
theorem c_X3_isUnder {k j : Int32} (h : QR (some (vI (b2i (uKd k j)))) w) : ct KX3_isUnder 0 0 [vI k, vI j] w QR QX := by
  refine st_X3_isUnder (sg_X3_isUnder_0 ⟨fun c => ?_, fun c => ⟨fun c2 => ⟨fun c3 => ?_, fun c3 => ⟨fun c4 => ?_, fun c4 => ?_⟩⟩, fun c2 => ⟨fun c3 => ?_, fun c3 => ⟨fun c4 => ?_, fun c4 => ⟨fun c5 => ?_, fun c5 => ?_⟩⟩⟩⟩⟩)
  · rwa [b2i_t (Or.inl c)] at h
  · rwa [b2i_f (by rintro (z | z | z) <;> first | exact c z | exact c2 z.1 | exact c3 z.1)] at h
  · rwa [b2i_f (by rintro (z | z | z) <;> first | exact c z | exact c2 z.1 | exact c4 z.2)] at h
  · rwa [b2i_t (Or.inr (Or.inr ⟨c3, c4⟩))] at h
  · rwa [b2i_t (Or.inr (Or.inl ⟨c2, c3⟩))] at h
  · rwa [b2i_f (by rintro (z | z | z) <;> first | exact c z | exact c3 z.2 | exact c4 z.1)] at h
  · rwa [b2i_f (by rintro (z | z | z) <;> first | exact c z | exact c3 z.2 | exact c5 z.2)] at h
  · rwa [b2i_t (Or.inr (Or.inr ⟨c4, c5⟩))] at h
theorem c_X3_isThing (hV : V g w) (hE : EG g P) {x : Int32} (h : QR (some (vI (b2i (¬ kdI P x = -1)))) w) : ct KX3_isThing 0 0 [vR (some (g_m g)), vI x] w QR QX := by
  refine st_X3_isThing (sg_X3_isThing_0 (c_X3_in ⟨_, rfl, fun c => ?_, fun c => ?_⟩))
  · rw [kdI_o (b2i_0.mp c), b2i_f (fun z => z rfl)] at h
    exact h
  · have hx : inR x := Classical.byContradiction (fun z => c (b2i_0.mpr z))
    obtain ⟨t, ht, rfl⟩ := inR_n hx
    rw [kdI_n ht] at h
    refine ⟨_, hV.mf_s, _, g_kind hV hE ht, fun c2 => ?_, fun c2 => ?_⟩
    · rwa [b2i_f (fun z => z c2)] at h
    · rwa [b2i_t c2] at h
theorem c_X3_isFiles (hV : V g w) (hE : EG g P) {x : Int32} (h : QR (some (vI (b2i (fK (kdI P x))))) w) : ct KX3_isFiles 0 0 [vR (some (g_m g)), vI x] w QR QX := by
  refine st_X3_isFiles (sg_X3_isFiles_0 ⟨hV.mO, c_X3_isThing hV hE ⟨_, rfl, fun c => ?_, fun c => ?_⟩⟩)
  · have c1 : kdI P x = -1 := Classical.byContradiction (fun z => b2i_0.mp c z)
    rw [c1, b2i_f (by decide)] at h
    exact h
  · have c1 : ¬ kdI P x = -1 := fun z => c (b2i_0.mpr (fun y => y z))
    have hx : inR x := Classical.byContradiction (fun z => c1 (kdI_o z))
    obtain ⟨t, ht, rfl⟩ := inR_n hx
    rw [kdI_n ht] at h
    refine ⟨_, hV.mf_s, _, g_kind hV hE ht, c_X3_isUnder ⟨_, rfl, fun c2 => ?_, fun c2 => ?_⟩⟩
    · rwa [b2i_f (fun z => b2i_0.mp c2 ((uKd_0 _).mpr z))] at h
    · have c3 : fK (P_kind P t) := (uKd_0 _).mp (Classical.byContradiction (fun z => c2 (b2i_0.mpr z)))
      rwa [b2i_t c3] at h
theorem c_X3_isSnapshot (hV : V g w) (hE : EG g P) {x : Int32} (h : QR (some (vI (b2i (sK (kdI P x))))) w) : ct KX3_isSnapshot 0 0 [vR (some (g_m g)), vI x] w QR QX := by
  refine st_X3_isSnapshot (sg_X3_isSnapshot_0 ⟨hV.mO, c_X3_isThing hV hE ⟨_, rfl, fun c => ?_, fun c => ?_⟩⟩)
  · have c1 : kdI P x = -1 := Classical.byContradiction (fun z => b2i_0.mp c z)
    rw [c1, b2i_f (by decide)] at h
    exact h
  · have c1 : ¬ kdI P x = -1 := fun z => c (b2i_0.mpr (fun y => y z))
    have hx : inR x := Classical.byContradiction (fun z => c1 (kdI_o z))
    obtain ⟨t, ht, rfl⟩ := inR_n hx
    rw [kdI_n ht] at h
    refine ⟨_, hV.mf_s, _, g_kind hV hE ht, c_X3_isUnder ⟨_, rfl, fun c2 => ?_, fun c2 => ?_⟩⟩
    · rwa [b2i_f (fun z => b2i_0.mp c2 ((uKd_2 _).mpr z))] at h
    · have c3 : sK (P_kind P t) := (uKd_2 _).mp (Classical.byContradiction (fun z => c2 (b2i_0.mpr z)))
      rwa [b2i_t c3] at h
theorem c_X3_hasSlots (hV : V g w) (hE : EG g P) {x : Int32} (h : QR (some (vI (b2i (hK (kdI P x))))) w) : ct KX3_hasSlots 0 0 [vR (some (g_m g)), vI x] w QR QX := by
  refine st_X3_hasSlots (sg_X3_hasSlots_0 ⟨hV.mO, c_X3_isFiles hV hE ⟨_, rfl, fun c => ?_, fun c => ⟨hV.mO, c_X3_isSnapshot hV hE ⟨_, rfl, fun c2 => ?_, fun c2 => ?_⟩⟩⟩⟩)
  · have c1 : fK (kdI P x) := Classical.byContradiction (fun z => c (b2i_0.mpr z))
    rwa [b2i_t (Or.inl c1)] at h
  · rwa [b2i_f (by rintro (z | z) <;> first | exact b2i_0.mp c z | exact b2i_0.mp c2 z)] at h
  · have c1 : sK (kdI P x) := Classical.byContradiction (fun z => c2 (b2i_0.mpr z))
    rwa [b2i_t (Or.inr c1)] at h
theorem c_X3_hasSlots_n (hV : V g w) (hE : EG g P) {t : Nat} (ht : t < 20) (h : QR (some (vI (b2i (hK (P_kind P t))))) w) : ct KX3_hasSlots 0 0 [vR (some (g_m g)), vI (nI t)] w QR QX := by
  refine c_X3_hasSlots hV hE ?_
  rw [kdI_n ht]
  exact h
theorem c_X3_isSnapshot_n (hV : V g w) (hE : EG g P) {t : Nat} (ht : t < 20) (h : QR (some (vI (b2i (sK (P_kind P t))))) w) : ct KX3_isSnapshot 0 0 [vR (some (g_m g)), vI (nI t)] w QR QX := by
  refine c_X3_isSnapshot hV hE ?_
  rw [kdI_n ht]
  exact h
theorem c_X3_there (hV : V g w) (hE : EG g P) {x : Int32} (h : QR (some (vI (thr P x))) w) : ct KX3_there 0 0 [vR (some (g_m g)), vI x] w QR QX := by
  refine st_X3_there (sg_X3_there_0 (c_X3_in ⟨_, rfl, fun c => ⟨hV.mO, c_X3_isThing hV hE ⟨_, rfl, fun c2 => ?_, fun c2 => ?_⟩⟩, fun c => ?_⟩))
  · have hx : inR x := Classical.byContradiction (fun z => c (b2i_0.mpr z))
    have c1 : kdI P x = -1 := Classical.byContradiction (fun z => b2i_0.mp c2 z)
    unfold thr at h
    rwa [if_pos hx, if_pos c1] at h
  · have hx : inR x := Classical.byContradiction (fun z => c (b2i_0.mpr z))
    have c1 : ¬ kdI P x = -1 := fun z => c2 (b2i_0.mpr (fun y => y z))
    unfold thr at h
    rwa [if_pos hx, if_neg c1] at h
  · unfold thr at h
    rwa [if_neg (b2i_0.mp c)] at h
theorem c_X3_asked (hV : V g w) (hE : EG g P) {x j : Int32} (h : QR (some (vI (ask P x j))) w) : ct KX3_asked 0 0 [vR (some (g_m g)), vI x, vI j] w QR QX := by
  refine st_X3_asked (sg_X3_asked_0 ⟨hV.mO, c_X3_there hV hE ⟨_, rfl, fun c => ?_, fun c => ?_⟩⟩)
  · obtain ⟨t, ht, rfl, hk⟩ := thr_0.mp c
    unfold ask at h
    rw [if_pos c, kdI_n ht] at h
    refine ⟨_, hV.mf_s, _, g_kind hV hE ht, c_X3_isUnder ⟨_, rfl, fun c2 => ?_, fun c2 => ?_⟩⟩
    · rwa [if_neg (b2i_0.mp c2)] at h
    · have c3 : uKd (P_kind P t) j := Classical.byContradiction (fun z => c2 (b2i_0.mpr z))
      rwa [if_pos c3] at h
  · unfold ask at h
    rwa [if_neg c] at h
theorem c_X3_askedSlots (hV : V g w) (hE : EG g P) {x : Int32} (h : QR (some (vI (askS P x))) w) : ct KX3_askedSlots 0 0 [vR (some (g_m g)), vI x] w QR QX := by
  refine st_X3_askedSlots (sg_X3_askedSlots_0 ⟨hV.mO, c_X3_there hV hE ⟨_, rfl, fun c => ⟨hV.mO, c_X3_hasSlots hV hE ⟨_, rfl, fun c2 => ?_, fun c2 => ?_⟩⟩, fun c => ?_⟩⟩)
  · unfold askS at h
    rwa [if_pos c, if_neg (b2i_0.mp c2)] at h
  · have c3 : hK (kdI P x) := Classical.byContradiction (fun z => c2 (b2i_0.mpr z))
    unfold askS at h
    rwa [if_pos c, if_pos c3] at h
  · unfold askS at h
    rwa [if_neg c] at h
theorem askS_0 {x : Int32} : askS P x = 0 ↔ ∃ t : Nat, t < 20 ∧ x = nI t ∧ hK (P_kind P t) := by
  unfold askS
  by_cases c : thr P x = 0
  · obtain ⟨t, ht, rfl, hk⟩ := thr_0.mp c
    rw [if_pos c, kdI_n ht]
    by_cases c2 : hK (P_kind P t)
    · rw [if_pos c2]
      exact ⟨fun _ => ⟨t, ht, rfl, c2⟩, fun _ => rfl⟩
    · rw [if_neg c2]
      constructor
      · intro e
        exact absurd e (by decide)
      · rintro ⟨t', ht', e, h3⟩
        rw [nI_eq (by omega) (by omega)] at e
        subst e
        exact absurd h3 c2
  · rw [if_neg c]
    constructor
    · intro e
      exact absurd e c
    · rintro ⟨t, ht, rfl, h3⟩
      exact absurd (thr_0.mpr ⟨t, ht, rfl, hK_m1 h3⟩) c
theorem ask_0 {x j : Int32} (hj : ¬ j = -1) : ask P x j = 0 ↔ ∃ t : Nat, t < 20 ∧ x = nI t ∧ uKd (P_kind P t) j := by
  unfold ask
  by_cases c : thr P x = 0
  · obtain ⟨t, ht, rfl, hk⟩ := thr_0.mp c
    rw [if_pos c, kdI_n ht]
    by_cases c2 : uKd (P_kind P t) j
    · rw [if_pos c2]
      exact ⟨fun _ => ⟨t, ht, rfl, c2⟩, fun _ => rfl⟩
    · rw [if_neg c2]
      constructor
      · intro e
        exact absurd e (by decide)
      · rintro ⟨t', ht', e, h3⟩
        rw [nI_eq (by omega) (by omega)] at e
        subst e
        exact absurd h3 c2
  · rw [if_neg c]
    constructor
    · intro e
      exact absurd e c
    · rintro ⟨t, ht, rfl, h3⟩
      refine absurd (thr_0.mpr ⟨t, ht, rfl, fun e => ?_⟩) c
      rw [e] at h3
      rcases h3 with z | z | z
      · exact hj z.symm
      · exact absurd z.1 (by decide)
      · exact absurd z.1 (by decide)
end MR
