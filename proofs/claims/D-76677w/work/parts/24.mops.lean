/-! ===== the reference: what changes things, slots and blocks. An op is a pair: its answer, what then is ===== -/
set_option maxRecDepth 100000
def wrP (P : PT) (t k b : Nat) (sz : Int32) : PT := P_slot_ (P_birth_ (P_size_ P (fset (P_size P) b sz)) (fset (P_birth P) b (P_time P))) (fset2 (P_slot P) t k (nI b))
def ovr (P : PT) (t k : Nat) (sz : Int32) : Prop := P_kind P t = 1 ∧ (P_quota P t).toInt64 < (spS P t - (szI P (P_slot P t k)).toInt64) + sz.toInt64
noncomputable def o_written (P : PT) (t k : Nat) (sz : Int32) : Int32 × PT := @ite _ (lB P = 96 ∨ ovr P t k sz) (Classical.propDecidable _) (-4, P) (nI (lB P), gcP (wrP P t k (lB P) sz))
theorem o_written_f {P : PT} {t k : Nat} {sz : Int32} (h : lB P = 96 ∨ ovr P t k sz) : o_written P t k sz = (-4, P) := @if_pos _ (Classical.propDecidable _) h _ _ _
theorem o_written_w {P : PT} {t k : Nat} {sz : Int32} (h : ¬ (lB P = 96 ∨ ovr P t k sz)) : o_written P t k sz = (nI (lB P), gcP (wrP P t k (lB P) sz)) := @if_neg _ (Classical.propDecidable _) h _ _ _
theorem lB_le (P : PT) : lB P ≤ 96 := by
  have := (lst_spec (fun b => P_size P b ≤ 0) 96 0).2.1
  unfold lB
  omega
theorem lT_le (P : PT) : lT P ≤ 20 := by
  have := (lst_spec (fun t => P_kind P t = -1) 20 0).2.1
  unfold lT
  omega
theorem SO.wr {P : PT} (h : SO P) {t k b : Nat} {sz : Int32} (hb : b < 96) : SO (wrP P t k b sz) := by
  intro j i hj hi
  show fset2 (P_slot P) t k (nI b) j i = -1 ∨ ∃ c : Nat, c < 96 ∧ fset2 (P_slot P) t k (nI b) j i = nI c
  by_cases e : j = t ∧ i = k
  · obtain ⟨rfl, rfl⟩ := e
    rw [fset2_s]
    exact Or.inr ⟨b, hb, rfl⟩
  · rw [fset2_n e]
    exact h j i hj hi
def erP (P : PT) (t k : Nat) : PT := P_slot_ P (fset2 (P_slot P) t k (-1))
theorem SO.er {P : PT} (h : SO P) {t k : Nat} : SO (erP P t k) := by
  intro j i hj hi
  show fset2 (P_slot P) t k (-1) j i = -1 ∨ ∃ c : Nat, c < 96 ∧ fset2 (P_slot P) t k (-1) j i = nI c
  by_cases e : j = t ∧ i = k
  · obtain ⟨rfl, rfl⟩ := e
    rw [fset2_s]
    exact Or.inl rfl
  · rw [fset2_n e]
    exact h j i hj hi
noncomputable def o_erased (P : PT) (t k : Nat) : Int32 × PT := (P_slot P t k, gcP (erP P t k))
noncomputable def o_write (P : PT) (x k sz : Int32) : Int32 × PT := if inI k 0 11 ∧ inI sz 1 1000000000 then (if ask P x 0 = 0 then o_written P x.toNatClampNeg k.toNatClampNeg sz else (ask P x 0, P)) else (-2, P)
noncomputable def o_erase (P : PT) (x k : Int32) : Int32 × PT := if inI k 0 11 then (if ask P x 0 = 0 then o_erased P x.toNatClampNeg k.toNatClampNeg else (ask P x 0, P)) else (-2, P)
/-- new files -/
def flP (P : PT) (t : Nat) (q : Int32) : PT := P_quota_ (cmP P t (if q = -1 then 0 else 1) (P_time P)) (fset (P_quota (cmP P t (if q = -1 then 0 else 1) (P_time P))) t q)
noncomputable def o_files (P : PT) (q : Int32) : Int32 × PT := if inI q (-1) 1000000000 then (if lT P = 20 then (-4, P) else (nI (lT P), flP P (lT P) q)) else (-2, P)
/-- slots of u to t -/
def tkP (P : PT) (t u : Nat) : PT := P_slot_ P (fset (P_slot P) t (P_slot P u))
def sn1 (P : PT) (f t : Nat) (tg : Int32) : PT := tkP (cmP P t (2 + tg) (P_time P)) t f
def sn2 (P : PT) (f t : Nat) : PT := P_prev_ P (fset (P_prev P) t (P_prev P f))
def sn3 (P : PT) (f t : Nat) : PT := P_prev_ P (fset (P_prev P) f (nI t))
def sn4 (P : PT) (f t : Nat) : PT := P_owner_ P (fset (P_owner P) t (nI f))
def sn5 (P : PT) (t : Nat) (tg : Int32) : PT := P_tags_ P (fset (P_tags P) t tg)
def snP (P : PT) (f t : Nat) (tg : Int32) : PT := P_time_ (sn5 (sn4 (sn3 (sn2 (sn1 P f t tg) f t) f t) f t) t tg) (P_time P + 1)
noncomputable def o_snap (P : PT) (x tg : Int32) : Int32 × PT := if inI tg 0 1 then (if ask P x 0 = 0 then (if lT P = 20 then (-4, P) else (nI (lT P), snP P x.toNatClampNeg (lT P) tg)) else (ask P x 0, P)) else (-2, P)
def o_tag (P : PT) (x v : Int32) : Int32 × PT := if inI v 0 9 then (if ask P x 3 = 0 then (P_tags P x.toNatClampNeg, P_tags_ P (fset (P_tags P) x.toNatClampNeg v)) else (ask P x 3, P)) else (-2, P)
noncomputable def o_mark (P : PT) (x : Int32) : Int32 × PT := if ask P x 2 = 0 then (if lT P = 20 then (-4, P) else (nI (lT P), cmP P (lT P) 4 (P_made P x.toNatClampNeg))) else (ask P x 2, P)
def fkP (P : PT) (s t : Nat) : PT := P_prev_ (tkP (cmP P t 0 (P_time P)) t s) (fset (P_prev (tkP (cmP P t 0 (P_time P)) t s)) t (nI s))
noncomputable def o_fork (P : PT) (x : Int32) : Int32 × PT := if ask P x 2 = 0 then (if lT P = 20 then (-4, P) else (nI (lT P), fkP P x.toNatClampNeg (lT P))) else (ask P x 2, P)
/-- prevs, where those below n that have t are led past it -/
def pvR (P : PT) (t n : Nat) : Nat → Int32 := fun j => if j < n ∧ hK (P_kind P j) ∧ P_prev P j = nI t then P_prev P t else P_prev P j
def rmP (P : PT) (t : Nat) : PT := P_kind_ (P_prev_ P (pvR P t 20)) (fset (P_kind P) t (-1))
noncomputable def o_removed (P : PT) (t : Nat) : Int32 × PT := (nI (gcN (rmP P t)), gcP (rmP P t))
/-- what may not be removed -/
def stuck (P : PT) (t : Nat) : Prop := (sK (P_kind P t) ∧ (¬ P_tags P t = 0 ∨ 1 < nNx P (nI t))) ∨ (fK (P_kind P t) ∧ 0 < nOw P (nI t))
noncomputable def o_remove (P : PT) (x : Int32) : Int32 × PT := if thr P x = 0 then @ite _ (stuck P x.toNatClampNeg) (Classical.propDecidable _) (-3, P) (o_removed P x.toNatClampNeg) else (thr P x, P)
/-- owners, where those of a chain that have o get t; their number -/
def owS (o t : Int32) : List Nat → (Nat → Int32) → (Nat → Int32)
  | [], F => F
  | i :: l, F => owS o t l (if F i = o then fset F i t else F)
def owN (o t : Int32) : List Nat → (Nat → Int32) → Nat
  | [], _ => 0
  | i :: l, F => (if F i = o then 1 else 0) + owN o t l (if F i = o then fset F i t else F)
theorem owN_le (o t : Int32) : ∀ l F, owN o t l F ≤ l.length := by
  intro l
  induction l with
  | nil => intro F; exact Nat.le_refl 0
  | cons i l ih =>
    intro F
    show (if F i = o then 1 else 0) + owN o t l _ ≤ l.length + 1
    have := ih (if F i = o then fset F i t else F)
    have h1 : (if F i = o then 1 else 0) ≤ 1 := by split <;> omega
    omega
noncomputable def o_promote (P : PT) (l : List Nat) (x : Int32) : Int32 × PT := if ask P x 0 = 0 then (match orig P x l with
  | none => (-3, P)
  | some o => (nI (owN (P_owner P o) x l (P_owner P)), P_owner_ P (owS (P_owner P o) x l (P_owner P)))) else (ask P x 0, P)
noncomputable def o_rollback (P : PT) (x : Int32) : Int32 × PT := if ask P x 0 = 0 then (if P_prev P x.toNatClampNeg = -1 then (-3, P) else (nI (gcN (tkP P x.toNatClampNeg (pn P x.toNatClampNeg))), gcP (tkP P x.toNatClampNeg (pn P x.toNatClampNeg)))) else (ask P x 0, P)
def o_tick (P : PT) : Int32 × PT := if P_time P < 100000 then (P_time P + 1, P_time_ P (P_time P + 1)) else (-3, P)
theorem SO.tk {P : PT} (h : SO P) {t u : Nat} (hu : u < 20) : SO (tkP P t u) := by
  intro j i hj hi
  show fset (P_slot P) t (P_slot P u) j i = -1 ∨ ∃ c : Nat, c < 96 ∧ fset (P_slot P) t (P_slot P u) j i = nI c
  by_cases e : j = t
  · subst e
    rw [fset_s]
    exact h u i hu hi
  · rw [fset_n e]
    exact h j i hj hi
section MO
variable {g : GT} {w : aW} {P : PT} {m0 m : MT} {QR : Option aV → aW → Prop} {QX : String → aW → Prop} {rc rs : Nat}
theorem V.st (hV : V g w) : V (G_M_ g (G_M g)) w := hV
theorem q_kind (hV : V (G_M_ g m) w) (hM : MR m0 P m) {t : Nat} (ht : t < 20) {x : Int32} {Q : aW → Prop} (k : ∀ m' w', V (G_M_ g m') w' → MR m0 (P_kind_ P (fset (P_kind P) t x)) m' → Q w') : pI w (g_ad g 401) (2 + nI t) x Q := p_kind hV hM.e ht (fun s' w' h' e' => k _ w' h' (hM.ss e'))
theorem q_made (hV : V (G_M_ g m) w) (hM : MR m0 P m) {t : Nat} (ht : t < 20) {x : Int32} {Q : aW → Prop} (k : ∀ m' w', V (G_M_ g m') w' → MR m0 (P_made_ P (fset (P_made P) t x)) m' → Q w') : pI w (g_ad g 401) (22 + nI t) x Q := p_made hV hM.e ht (fun s' w' h' e' => k _ w' h' (hM.ss e'))
theorem q_prev (hV : V (G_M_ g m) w) (hM : MR m0 P m) {t : Nat} (ht : t < 20) {x : Int32} {Q : aW → Prop} (k : ∀ m' w', V (G_M_ g m') w' → MR m0 (P_prev_ P (fset (P_prev P) t x)) m' → Q w') : pI w (g_ad g 401) (42 + nI t) x Q := p_prev hV hM.e ht (fun s' w' h' e' => k _ w' h' (hM.ss e'))
theorem q_owner (hV : V (G_M_ g m) w) (hM : MR m0 P m) {t : Nat} (ht : t < 20) {x : Int32} {Q : aW → Prop} (k : ∀ m' w', V (G_M_ g m') w' → MR m0 (P_owner_ P (fset (P_owner P) t x)) m' → Q w') : pI w (g_ad g 401) (62 + nI t) x Q := p_owner hV hM.e ht (fun s' w' h' e' => k _ w' h' (hM.ss e'))
theorem q_quota (hV : V (G_M_ g m) w) (hM : MR m0 P m) {t : Nat} (ht : t < 20) {x : Int32} {Q : aW → Prop} (k : ∀ m' w', V (G_M_ g m') w' → MR m0 (P_quota_ P (fset (P_quota P) t x)) m' → Q w') : pI w (g_ad g 401) (82 + nI t) x Q := p_quota hV hM.e ht (fun s' w' h' e' => k _ w' h' (hM.ss e'))
theorem q_tags (hV : V (G_M_ g m) w) (hM : MR m0 P m) {t : Nat} (ht : t < 20) {x : Int32} {Q : aW → Prop} (k : ∀ m' w', V (G_M_ g m') w' → MR m0 (P_tags_ P (fset (P_tags P) t x)) m' → Q w') : pI w (g_ad g 401) (102 + nI t) x Q := p_tags hV hM.e ht (fun s' w' h' e' => k _ w' h' (hM.ss e'))
theorem q_size (hV : V (G_M_ g m) w) (hM : MR m0 P m) {t : Nat} (ht : t < 96) {x : Int32} {Q : aW → Prop} (k : ∀ m' w', V (G_M_ g m') w' → MR m0 (P_size_ P (fset (P_size P) t x)) m' → Q w') : pI w (g_ad g 401) (362 + nI t) x Q := p_size hV hM.e ht (fun s' w' h' e' => k _ w' h' (hM.ss e'))
theorem q_birth (hV : V (G_M_ g m) w) (hM : MR m0 P m) {t : Nat} (ht : t < 96) {x : Int32} {Q : aW → Prop} (k : ∀ m' w', V (G_M_ g m') w' → MR m0 (P_birth_ P (fset (P_birth P) t x)) m' → Q w') : pI w (g_ad g 401) (458 + nI t) x Q := p_birth hV hM.e ht (fun s' w' h' e' => k _ w' h' (hM.ss e'))
theorem q_slot (hV : V (G_M_ g m) w) (hM : MR m0 P m) {t k : Nat} (ht : t < 20) (hk : k < 12) {x : Int32} {Q : aW → Prop} (kk : ∀ m' w', V (G_M_ g m') w' → MR m0 (P_slot_ P (fset2 (P_slot P) t k x)) m' → Q w') : pI w (g_ad g 401) ((122 + 12 * nI t) + nI k) x Q := p_slot hV hM.e ht hk (fun s' w' h' e' => kk _ w' h' (hM.ss e'))
theorem q_time (hV : V (G_M_ g m) w) (hM : MR m0 P m) {x : Int32} {Q : aW → Prop} (k : ∀ m' w', V (G_M_ g m') w' → MR m0 (P_time_ P x) m' → Q w') : pI w (g_ad g 401) 0 x Q := p_time hV hM.e (fun s' w' h' e' => k _ w' h' (hM.ss e'))
theorem u_newThing (hV : V (G_M_ g m) w) (hE : Enc (M_s m) P) (h : QR (some (vI (nI (lT P)))) w) : ct KX3_newThing 0 0 [vR (some (g_m g))] w QR QX := c_X3_newThing (g := G_M_ g m) hV hE h
theorem u_newBlock (hV : V (G_M_ g m) w) (hE : Enc (M_s m) P) (h : QR (some (vI (nI (lB P)))) w) : ct KX3_newBlock 0 0 [vR (some (g_m g))] w QR QX := c_X3_newBlock (g := G_M_ g m) hV hE h
theorem u_things (hV : V (G_M_ g m) w) (hE : Enc (M_s m) P) (h : QR (some (vI (nI (nTh P)))) w) : ct KX3_things 0 0 [vR (some (g_m g))] w QR QX := c_X3_things (g := G_M_ g m) hV hE h
theorem u_blocks (hV : V (G_M_ g m) w) (hE : Enc (M_s m) P) (h : QR (some (vI (nI (nBk P)))) w) : ct KX3_blocks 0 0 [vR (some (g_m g))] w QR QX := c_X3_blocks (g := G_M_ g m) hV hE h
theorem u_frees (hV : V (G_M_ g m) w) (hM : MR m0 P m) (hO : SO P) (h : ∀ m' w', V (G_M_ g m') w' → MR m0 (gcP P) m' → QR (some (vI (nI (gcN P)))) w') : ct KX3_frees 0 0 [vR (some (g_m g))] w QR QX := c_X3_frees (g := G_M_ g m) hV hM.e hO (fun m' w' h1 hM1 => h m' w' h1 (hM.tr hM1))
theorem u_takesSlots (hV : V (G_M_ g m) w) (hM : MR m0 P m) {t u : Nat} (ht : t < 20) (hu : u < 20) (h : ∀ m' w', V (G_M_ g m') w' → MR m0 (tkP P t u) m' → QR none w') : ct KX3_takesSlots 0 0 [vR (some (g_m g)), vI (nI t), vI (nI u)] w QR QX := c_X3_takesSlots (g := G_M_ g m) hV hM.e ht hu (fun m' w' h1 hM1 => h m' w' h1 (hM.tr hM1))
theorem u_comes (hV : V (G_M_ g m) w) (hM : MR m0 P m) (hT : lT P < 20) {kind made : Int32} (h : ∀ m' w', V (G_M_ g m') w' → MR m0 (cmP P (lT P) kind made) m' → QR (some (vI (nI (lT P)))) w') : ct KX3_comes 0 0 [vR (some (g_m g)), vI kind, vI made] w QR QX := c_X3_comes (g := G_M_ g m) hV hM.e hT (fun m' w' h1 hM1 => h m' w' h1 (hM.tr hM1))
theorem u_counts (hV : V (G_M_ g m) w) (hM : MR m0 P m) (hO : SO P) (h : ∀ m' w', V (G_M_ g m') w' → MR m0 P m' → (∀ b, b < 96 → M_holds m' b = nI (hCn P b)) → QR none w') : ct KX3_counts 0 0 [vR (some (g_m g))] w QR QX := c_X3_counts (g := G_M_ g m) hV hM.e hO (fun m' w' h1 hM1 hz => h m' w' h1 (hM.tr hM1) hz)
theorem c_X3_written (hV : V (G_M_ g m) w) (hM : MR m0 P m) (hO : SO P) {t k : Nat} (ht : t < 20) (hk : k < 12) {sz : Int32} (h : ∀ m' w', V (G_M_ g m') w' → MR m0 (o_written P t k sz).2 m' → QR (some (vI (o_written P t k sz).1)) w') : ct KX3_written 0 0 [vR (some (g_m g)), vI (nI t), vI (nI k), vI sz] w QR QX := by
  have n96 : nI (lB P) = 96 ↔ lB P = 96 := nI_eq (b := 96) (by have := lB_le P; omega) (by decide)
  have hf : lB P = 96 ∨ ovr P t k sz → QR (some (vI (-4))) w := by
    intro c
    have := h m w hV
    rw [o_written_f c] at this
    exact this hM
  have hw : ¬ lB P = 96 → ¬ ovr P t k sz → ∃ x71 : Nat, gf w (g_m g) [3] 1 (vR (some x71)) ∧ pI w x71 (362 + nI (lB P)) sz (fun w81 => ∃ x83 : Nat, gf w81 (g_m g) [3] 1 (vR (some x83)) ∧ ∃ x93 : Nat, gf w81 (g_m g) [3] 1 (vR (some x93)) ∧ ∃ x97 : Int32, gI w81 x93 0 x97 ∧ pI w81 x83 (458 + nI (lB P)) x97 (fun w98 => ∃ x100 : Nat, gf w98 (g_m g) [3] 1 (vR (some x100)) ∧ pI w98 x100 ((122 + (12 * nI t)) + nI k) (nI (lB P)) (fun w114 => isO w114 (g_m g) 3 ∧ ct (KX3_frees) 0 0 [vR (some (g_m g))] w114 (fun v116 w116 => ∃ x116 : Int32, v116 = some (vI x116) ∧ QR (some (vI (nI (lB P)))) w116) (fun E116 w116 => False)))) := by
    intro c1 c2
    have hb : lB P < 96 := by have := lB_le P; omega
    rw [o_written_w (fun z => z.elim c1 c2)] at h
    exact ⟨_, hV.mf_s, q_size hV hM hb (fun m1 w1 h1 M1 => ⟨_, h1.mf_s, _, h1.mf_s, _, g_time h1 M1.e, q_birth h1 M1 hb (fun m2 w2 h2 M2 => ⟨_, h2.mf_s, q_slot h2 M2 ht hk (fun m3 w3 h3 M3 => ⟨h3.mO, u_frees h3 (P := wrP P t k (lB P) sz) M3 (hO.wr hb) (fun m' w' h4 hM => ⟨_, rfl, h m' w' h4 hM⟩)⟩)⟩)⟩)⟩
  refine st_X3_written (sg_X3_written_0 ⟨hV.mO, u_newBlock hV hM.e ⟨_, rfl, _, hV.mf_s, _, g_kind hV hM.e ht, fun c => ⟨fun c2 => hf (Or.inl (n96.mp c2)), fun c2 => hw (fun z => c2 (n96.mpr z)) (fun z => c z.1)⟩, fun c => ⟨hV.mO, c_X3_spaceOf hV hM.e hO ht ⟨_, rfl, hV.mO, c_X3_sizeIn hV hM.e hO ht hk ⟨_, rfl, _, hV.mf_s, _, g_quota hV hM.e ht, fun c2 => ⟨fun c3 => hf (Or.inl (n96.mp c3)), fun c3 => hw (fun z => c3 (n96.mpr z)) (fun z => c2 z.2)⟩, fun c2 => ⟨fun c3 => hf (Or.inl (n96.mp c3)), fun _ => hf (Or.inr ⟨c, c2⟩)⟩⟩⟩⟩⟩⟩)
theorem c_X3_erased (hV : V (G_M_ g m) w) (hM : MR m0 P m) (hO : SO P) {t k : Nat} (ht : t < 20) (hk : k < 12) (h : ∀ m' w', V (G_M_ g m') w' → MR m0 (o_erased P t k).2 m' → QR (some (vI (o_erased P t k).1)) w') : ct KX3_erased 0 0 [vR (some (g_m g)), vI (nI t), vI (nI k)] w QR QX :=
  st_X3_erased (sg_X3_erased_0 ⟨_, hV.mf_s, _, g_slot hV hM.e ht hk, _, hV.mf_s, q_slot hV hM ht hk (fun m1 w1 h1 M1 => ⟨h1.mO, u_frees h1 (P := erP P t k) M1 hO.er (fun m' w' h4 hM => ⟨_, rfl, h m' w' h4 hM⟩)⟩)⟩)
theorem c_X3_write (hV : V (G_M_ g m) w) (hM : MR m0 P m) (hO : SO P) {x k sz : Int32} (h : ∀ m' w', V (G_M_ g m') w' → MR m0 (o_write P x k sz).2 m' → QR (some (vI (o_write P x k sz).1)) w') : ct KX3_write 0 0 [vR (some (g_m g)), vI x, vI k, vI sz] w QR QX := by
  have h0 := h m w hV
  unfold o_write at h h0
  refine st_X3_write (sg_X3_write_0 (c_X3_in ⟨_, rfl, fun c => ?_, fun c => c_X3_in ⟨_, rfl, fun c2 => ⟨hV.mO, c_X3_asked hV hM.e ⟨_, rfl, fun c3 => ⟨hV.mO, ?_⟩, fun c3 => ?_⟩⟩, fun c2 => ?_⟩⟩))
  · rw [if_neg (fun z => b2i_0.mp c z.1)] at h0
    exact h0 hM
  · rw [if_pos ⟨b2i_n0.mp c, b2i_n0.mp c2⟩, if_pos c3] at h
    obtain ⟨K, hK, rfl⟩ := inI_n (H := 11) (b2i_n0.mp c) rfl rfl (by decide)
    obtain ⟨t, ht, rfl, hk⟩ := (ask_0 (by decide)).mp c3
    rw [nI_clamp (by omega), nI_clamp (by omega)] at h
    exact c_X3_written hV hM hO ht (by omega) (fun m' w' h1 hM => ⟨_, rfl, h m' w' h1 hM⟩)
  · rw [if_pos ⟨b2i_n0.mp c, b2i_n0.mp c2⟩, if_neg c3] at h0
    exact h0 hM
  · rw [if_neg (fun z => b2i_0.mp c2 z.2)] at h0
    exact h0 hM
theorem c_X3_erase (hV : V (G_M_ g m) w) (hM : MR m0 P m) (hO : SO P) {x k : Int32} (h : ∀ m' w', V (G_M_ g m') w' → MR m0 (o_erase P x k).2 m' → QR (some (vI (o_erase P x k).1)) w') : ct KX3_erase 0 0 [vR (some (g_m g)), vI x, vI k] w QR QX := by
  have h0 := h m w hV
  unfold o_erase at h h0
  refine st_X3_erase (sg_X3_erase_0 (c_X3_in ⟨_, rfl, fun c => ⟨hV.mO, c_X3_asked hV hM.e ⟨_, rfl, fun c3 => ⟨hV.mO, ?_⟩, fun c3 => ?_⟩⟩, fun c => ?_⟩))
  · rw [if_pos (b2i_n0.mp c), if_pos c3] at h
    obtain ⟨K, hK, rfl⟩ := inI_n (H := 11) (b2i_n0.mp c) rfl rfl (by decide)
    obtain ⟨t, ht, rfl, hk⟩ := (ask_0 (by decide)).mp c3
    rw [nI_clamp (by omega), nI_clamp (by omega)] at h
    exact c_X3_erased hV hM hO ht (by omega) (fun m' w' h1 hM => ⟨_, rfl, h m' w' h1 hM⟩)
  · rw [if_pos (b2i_n0.mp c), if_neg c3] at h0
    exact h0 hM
  · rw [if_neg (b2i_0.mp c)] at h0
    exact h0 hM
theorem n20 {P : PT} : nI (lT P) = 20 ↔ lT P = 20 := nI_eq (b := 20) (by have := lT_le P; omega) (by decide)
theorem c_X3_files (hV : V (G_M_ g m) w) (hM : MR m0 P m) {q : Int32} (h : ∀ m' w', V (G_M_ g m') w' → MR m0 (o_files P q).2 m' → QR (some (vI (o_files P q).1)) w') : ct KX3_files 0 0 [vR (some (g_m g)), vI q] w QR QX := by
  have h0 := h m w hV
  unfold o_files at h h0
  refine st_X3_files (sg_X3_files_0 (c_X3_in ⟨_, rfl, fun c => ⟨hV.mO, u_newThing hV hM.e ⟨_, rfl, fun c2 => ?_, fun c2 => ?_⟩⟩, fun c => ?_⟩))
  · have c3 : ¬ lT P = 20 := fun z => c2 (n20.mpr z)
    have hT : lT P < 20 := by have := lT_le P; omega
    rw [if_pos (b2i_n0.mp c), if_neg c3] at h
    refine ⟨fun c4 => ⟨_, hV.mf_s, _, g_time hV hM.e, hV.mO, u_comes hV hM hT (fun m1 w1 h1 M1 => ⟨_, rfl, _, h1.mf_s, q_quota h1 M1 hT (fun m2 w2 h2 M2 => h _ w2 h2 ?_)⟩)⟩, fun c4 => ⟨_, hV.mf_s, _, g_time hV hM.e, hV.mO, u_comes hV hM hT (fun m1 w1 h1 M1 => ⟨_, rfl, _, h1.mf_s, q_quota h1 M1 hT (fun m2 w2 h2 M2 => h _ w2 h2 ?_)⟩)⟩⟩
    · unfold flP
      rw [if_neg c4]
      exact M2
    · unfold flP
      rw [if_pos c4]
      exact M2
  · rw [if_pos (b2i_n0.mp c), if_pos (n20.mp c2)] at h0
    exact h0 hM
  · rw [if_neg (b2i_0.mp c)] at h0
    exact h0 hM
theorem c_X3_snap (hV : V (G_M_ g m) w) (hM : MR m0 P m) {x tg : Int32} (h : ∀ m' w', V (G_M_ g m') w' → MR m0 (o_snap P x tg).2 m' → QR (some (vI (o_snap P x tg).1)) w') : ct KX3_snap 0 0 [vR (some (g_m g)), vI x, vI tg] w QR QX := by
  have h0 := h m w hV
  unfold o_snap at h h0
  refine st_X3_snap (sg_X3_snap_0 (c_X3_in ⟨_, rfl, fun c => ⟨hV.mO, c_X3_asked hV hM.e ⟨_, rfl, fun c3 => ⟨hV.mO, u_newThing hV hM.e ⟨_, rfl, fun c2 => ?_, fun c2 => ?_⟩⟩, fun c3 => ?_⟩⟩, fun c => ?_⟩))
  · have c4 : ¬ lT P = 20 := fun z => c2 (n20.mpr z)
    have hT : lT P < 20 := by have := lT_le P; omega
    rw [if_pos (b2i_n0.mp c), if_pos c3, if_neg c4] at h
    obtain ⟨t, ht, rfl, hk⟩ := (ask_0 (by decide)).mp c3
    rw [nI_clamp (by omega)] at h
    exact ⟨_, hV.mf_s, _, g_time hV hM.e, hV.mO, u_comes hV hM hT (fun m1 w1 h1 M1 => ⟨_, rfl, h1.mO, u_takesSlots h1 M1 hT ht (fun m2 w2 h2 M2 => ⟨rfl, _, h2.mf_s, _, h2.mf_s, _, g_prev h2 (P := sn1 P t (lT P) tg) M2.e ht, q_prev h2 (P := sn1 P t (lT P) tg) M2 hT (fun m3 w3 h3 M3 => ⟨_, h3.mf_s, q_prev h3 (P := sn2 (sn1 P t (lT P) tg) t (lT P)) M3 ht (fun m4 w4 h4 M4 => ⟨_, h4.mf_s, q_owner h4 (P := sn3 (sn2 (sn1 P t (lT P) tg) t (lT P)) t (lT P)) M4 hT (fun m5 w5 h5 M5 => ⟨_, h5.mf_s, q_tags h5 (P := sn4 (sn3 (sn2 (sn1 P t (lT P) tg) t (lT P)) t (lT P)) t (lT P)) M5 hT (fun m6 w6 h6 M6 => ⟨_, h6.mf_s, _, g_time h6 (P := sn5 (sn4 (sn3 (sn2 (sn1 P t (lT P) tg) t (lT P)) t (lT P)) t (lT P)) (lT P) tg) M6.e, q_time h6 (P := sn5 (sn4 (sn3 (sn2 (sn1 P t (lT P) tg) t (lT P)) t (lT P)) t (lT P)) (lT P) tg) M6 (fun m7 w7 h7 M7 => h _ w7 h7 M7)⟩)⟩)⟩)⟩)⟩)⟩)⟩
  · rw [if_pos (b2i_n0.mp c), if_pos c3, if_pos (n20.mp c2)] at h0
    exact h0 hM
  · rw [if_pos (b2i_n0.mp c), if_neg c3] at h0
    exact h0 hM
  · rw [if_neg (b2i_0.mp c)] at h0
    exact h0 hM
theorem c_X3_tag (hV : V (G_M_ g m) w) (hM : MR m0 P m) {x v : Int32} (h : ∀ m' w', V (G_M_ g m') w' → MR m0 (o_tag P x v).2 m' → QR (some (vI (o_tag P x v).1)) w') : ct KX3_tag 0 0 [vR (some (g_m g)), vI x, vI v] w QR QX := by
  have h0 := h m w hV
  unfold o_tag at h h0
  refine st_X3_tag (sg_X3_tag_0 (c_X3_in ⟨_, rfl, fun c => ⟨hV.mO, c_X3_asked hV hM.e ⟨_, rfl, fun c3 => ?_, fun c3 => ?_⟩⟩, fun c => ?_⟩))
  · rw [if_pos (b2i_n0.mp c), if_pos c3] at h
    obtain ⟨t, ht, rfl, hk⟩ := (ask_0 (by decide)).mp c3
    rw [nI_clamp (by omega)] at h
    exact ⟨_, hV.mf_s, _, g_tags hV hM.e ht, _, hV.mf_s, q_tags hV hM ht (fun m1 w1 h1 M1 => h _ w1 h1 M1)⟩
  · rw [if_pos (b2i_n0.mp c), if_neg c3] at h0
    exact h0 hM
  · rw [if_neg (b2i_0.mp c)] at h0
    exact h0 hM
theorem c_X3_mark (hV : V (G_M_ g m) w) (hM : MR m0 P m) {x : Int32} (h : ∀ m' w', V (G_M_ g m') w' → MR m0 (o_mark P x).2 m' → QR (some (vI (o_mark P x).1)) w') : ct KX3_mark 0 0 [vR (some (g_m g)), vI x] w QR QX := by
  have h0 := h m w hV
  unfold o_mark at h h0
  refine st_X3_mark (sg_X3_mark_0 ⟨hV.mO, c_X3_asked hV hM.e ⟨_, rfl, fun c3 => ⟨hV.mO, u_newThing hV hM.e ⟨_, rfl, fun c2 => ?_, fun c2 => ?_⟩⟩, fun c3 => ?_⟩⟩)
  · have c4 : ¬ lT P = 20 := fun z => c2 (n20.mpr z)
    have hT : lT P < 20 := by have := lT_le P; omega
    rw [if_pos c3, if_neg c4] at h
    obtain ⟨t, ht, rfl, hk⟩ := (ask_0 (by decide)).mp c3
    rw [nI_clamp (by omega)] at h
    exact ⟨_, hV.mf_s, _, g_made hV hM.e ht, hV.mO, u_comes hV hM hT (fun m1 w1 h1 M1 => ⟨_, rfl, h m1 w1 h1 M1⟩)⟩
  · rw [if_pos c3, if_pos (n20.mp c2)] at h0
    exact h0 hM
  · rw [if_neg c3] at h0
    exact h0 hM
theorem c_X3_fork (hV : V (G_M_ g m) w) (hM : MR m0 P m) {x : Int32} (h : ∀ m' w', V (G_M_ g m') w' → MR m0 (o_fork P x).2 m' → QR (some (vI (o_fork P x).1)) w') : ct KX3_fork 0 0 [vR (some (g_m g)), vI x] w QR QX := by
  have h0 := h m w hV
  unfold o_fork at h h0
  refine st_X3_fork (sg_X3_fork_0 ⟨hV.mO, c_X3_asked hV hM.e ⟨_, rfl, fun c3 => ⟨hV.mO, u_newThing hV hM.e ⟨_, rfl, fun c2 => ?_, fun c2 => ?_⟩⟩, fun c3 => ?_⟩⟩)
  · have c4 : ¬ lT P = 20 := fun z => c2 (n20.mpr z)
    have hT : lT P < 20 := by have := lT_le P; omega
    rw [if_pos c3, if_neg c4] at h
    obtain ⟨t, ht, rfl, hk⟩ := (ask_0 (by decide)).mp c3
    rw [nI_clamp (by omega)] at h
    exact ⟨_, hV.mf_s, _, g_time hV hM.e, hV.mO, u_comes hV hM hT (fun m1 w1 h1 M1 => ⟨_, rfl, h1.mO, u_takesSlots h1 M1 hT ht (fun m2 w2 h2 M2 => ⟨rfl, _, h2.mf_s, q_prev h2 (P := tkP (cmP P (lT P) 0 (P_time P)) (lT P) t) M2 hT (fun m3 w3 h3 M3 => h _ w3 h3 M3)⟩)⟩)⟩
  · rw [if_pos c3, if_pos (n20.mp c2)] at h0
    exact h0 hM
  · rw [if_neg c3] at h0
    exact h0 hM
theorem P_prev_ss (P : PT) (F F' : Nat → Int32) : P_prev_ (P_prev_ P F) F' = P_prev_ P F' := by
  obtain ⟨a, b, c, d, e, f, h, i, j, k, l⟩ := P
  rfl
theorem P_prev_gs (P : PT) (F : Nat → Int32) : P_prev (P_prev_ P F) = F := rfl
theorem lp_removed (hO : SO P) {t : Nat} (ht : t < 20) (hne : ¬ P_prev P t = nI t) (h : ∀ m' w', V (G_M_ g m') w' → MR m0 (o_removed P t).2 m' → QR (some (vI (o_removed P t).1)) w') : ∀ n k m1 w1, k + n = 20 → V (G_M_ g m1) w1 → MR m0 (P_prev_ P (pvR P t k)) m1 → wp KX3_removed rc rs QR QX 2 [(0, vR (some (g_m g))), (1, vI (nI t)), (2, vI (nI k))] [] w1 := by
  intro n
  induction n with
  | zero =>
    intro k m1 w1 hk hV hM
    refine sg_X3_removed_2 (lpc (N := 20) rfl (by decide) hk (fun _ => ⟨_, hV.mf_s, q_kind hV hM ht (fun m2 w2 h2 M2 => ⟨h2.mO, ?_⟩)⟩) (fun m e => by omega))
    have : k = 20 := by omega
    subst this
    have hO2 : SO (rmP P t) := hO
    exact u_frees h2 (P := rmP P t) M2 hO2 (fun m3 w3 h3 M3 => ⟨_, rfl, h m3 w3 h3 M3⟩)
  | succ n ih =>
    intro k m1 w1 hk hV hM
    have ek : pvR P t k k = P_prev P k := if_neg (fun z => by omega)
    have et : pvR P t k t = P_prev P t := if_neg (fun z => hne z.2.2)
    refine sg_X3_removed_2 (lpc (N := 20) rfl (by decide) hk (fun e => by omega) (fun m e hk2 => ⟨hV.mO, c_X3_hasSlots_n hV hM.e hk2 ⟨_, rfl, fun c => ?_, fun c => ⟨_, hV.mf_s, _, g_prev hV hM.e hk2, fun c2 => ?_, fun c2 => ⟨_, hV.mf_s, _, hV.mf_s, _, g_prev hV hM.e ht, q_prev hV hM hk2 (fun m2 w2 h2 M2 => ?_)⟩⟩⟩⟩))
    · have c' : ¬ hK (P_kind P k) := b2i_0.mp c
      rw [nI_1]
      refine ih (k + 1) m1 w1 (by omega) hV ?_
      have : pvR P t (k + 1) = pvR P t k := by
        funext j
        unfold pvR
        by_cases e : j = k
        · subst e
          rw [if_neg (fun z => c' z.2.1), if_neg (fun z => c' z.2.1)]
        · by_cases e2 : j < k
          · simp only [e2, show j < k + 1 by omega]
          · simp only [e2, show ¬ j < k + 1 by omega]
      rw [this]
      exact hM
    · have c2' : ¬ P_prev P k = nI t := by
        rw [← ek]
        exact c2
      rw [nI_1]
      refine ih (k + 1) m1 w1 (by omega) hV ?_
      have : pvR P t (k + 1) = pvR P t k := by
        funext j
        unfold pvR
        by_cases e : j = k
        · subst e
          rw [if_neg (fun z => c2' z.2.2), if_neg (fun z => c2' z.2.2)]
        · by_cases e2 : j < k
          · simp only [e2, show j < k + 1 by omega]
          · simp only [e2, show ¬ j < k + 1 by omega]
      rw [this]
      exact hM
    · have c2' : P_prev P k = nI t := by
        rw [← ek]
        exact c2
      rw [nI_1]
      refine ih (k + 1) _ w2 (by omega) h2 ?_
      rw [P_prev_gs, P_prev_ss, et] at M2
      have : pvR P t (k + 1) = fset (pvR P t k) k (P_prev P t) := by
        funext j
        by_cases e : j = k
        · subst e
          rw [fset_s]
          exact if_pos ⟨by omega, b2i_n0.mp c, c2'⟩
        · rw [fset_n e]
          unfold pvR
          by_cases e2 : j < k
          · simp only [e2, show j < k + 1 by omega]
          · simp only [e2, show ¬ j < k + 1 by omega]
      rw [this]
      exact M2
theorem c_X3_removed (hV : V (G_M_ g m) w) (hM : MR m0 P m) (hO : SO P) {t : Nat} (ht : t < 20) (hne : ¬ P_prev P t = nI t) (h : ∀ m' w', V (G_M_ g m') w' → MR m0 (o_removed P t).2 m' → QR (some (vI (o_removed P t).1)) w') : ct KX3_removed 0 0 [vR (some (g_m g)), vI (nI t)] w QR QX := by
  refine st_X3_removed (sg_X3_removed_0 (lp_removed hO ht hne h 20 0 m w rfl hV ?_))
  have : pvR P t 0 = P_prev P := by
    funext j
    exact if_neg (fun z => by omega)
  rw [this]
  exact hM
theorem c_X3_remove (hV : V (G_M_ g m) w) (hM : MR m0 P m) (hO : SO P) (hne : ∀ t, t < 20 → ¬ P_prev P t = nI t) {x : Int32} (h : ∀ m' w', V (G_M_ g m') w' → MR m0 (o_remove P x).2 m' → QR (some (vI (o_remove P x).1)) w') : ct KX3_remove 0 0 [vR (some (g_m g)), vI x] w QR QX := by
  have h0 := h m w hV
  unfold o_remove at h h0
  refine st_X3_remove (sg_X3_remove_0 ⟨hV.mO, c_X3_there hV hM.e ⟨_, rfl, fun c => ⟨hV.mO, ?_⟩, fun c => ?_⟩⟩)
  · rw [if_pos c] at h h0
    obtain ⟨t, ht, rfl, hk⟩ := thr_0.mp c
    rw [nI_clamp (by omega)] at h h0
    have hgo : ¬ stuck P t → ∀ (Q : Int32 → aW → Prop), (∀ m' w', V (G_M_ g m') w' → MR m0 (o_removed P t).2 m' → QR (some (vI (o_removed P t).1)) w') := by
      intro c2 Q
      rw [if_neg c2] at h
      exact h
    have hst : stuck P t → QR (some (vI (-3))) w := by
      intro c2
      rw [if_pos c2] at h0
      exact h0 hM
    have hnx : nNx P (nI t) ≤ 20 := cn_le _ _
    have how : nOw P (nI t) ≤ 20 := cn_le _ _
    have hrem : ¬ stuck P t → isO w (g_m g) 3 ∧ ct (KX3_removed) 0 0 [vR (some (g_m g)), vI (nI t)] w (fun v62 w62 => ∃ x62 : Int32, v62 = some (vI x62) ∧ QR (some (vI x62)) w62) (fun E62 w62 => False) :=
      fun c2 => ⟨hV.mO, c_X3_removed hV hM hO ht (hne t ht) (fun m' w' h1 hM => ⟨_, rfl, hgo c2 (fun _ _ => True) m' w' h1 hM⟩)⟩
    have hfil : ¬ (sK (P_kind P t) ∧ (¬ P_tags P t = 0 ∨ 1 < nNx P (nI t))) → isO w (g_m g) 3 ∧ ct (KX3_isFiles) 0 0 [vR (some (g_m g)), vI (nI t)] w (fun v43 w43 => ∃ x43 : Int32, v43 = some (vI x43) ∧ (x43 = 0 → isO w43 (g_m g) 3 ∧ ct (KX3_removed) 0 0 [vR (some (g_m g)), vI (nI t)] w43 (fun v62 w62 => ∃ x62 : Int32, v62 = some (vI x62) ∧ QR (some (vI x62)) w62) (fun E62 w62 => False)) ∧ (¬ x43 = 0 → isO w43 (g_m g) 3 ∧ ct (KX3_owned) 0 0 [vR (some (g_m g)), vI (nI t)] w43 (fun v51 w51 => ∃ x51 : Int32, v51 = some (vI x51) ∧ (x51 ≤ 0 → isO w51 (g_m g) 3 ∧ ct (KX3_removed) 0 0 [vR (some (g_m g)), vI (nI t)] w51 (fun v62 w62 => ∃ x62 : Int32, v62 = some (vI x62) ∧ QR (some (vI x62)) w62) (fun E62 w62 => False)) ∧ (¬ x51 ≤ 0 → QR (some (vI (-3))) w51)) (fun E51 w51 => False))) (fun E43 w43 => False) := by
      intro c2
      refine ⟨hV.mO, c_X3_isFiles hV hM.e ?_⟩
      rw [kdI_n ht]
      refine ⟨_, rfl, fun c3 => hrem ?_, fun c3 => ⟨hV.mO, c_X3_owned hV hM.e ⟨_, rfl, fun c4 => hrem ?_, fun c4 => hst (Or.inr ⟨b2i_n0.mp c3, ?_⟩)⟩⟩⟩
      · rintro (z | z)
        · exact c2 z
        · exact b2i_0.mp c3 z.1
      · rintro (z | z)
        · exact c2 z
        · have := (nI_leI (b := 0) (by omega) (by decide)).mp c4
          omega
      · rcases Nat.lt_or_ge 0 (nOw P (nI t)) with z | z
        · exact z
        · exact absurd (nI_le (b := 0) z (by decide)) c4
    refine c_X3_isSnapshot_n hV hM.e ht ⟨_, rfl, fun c2 => hfil (fun z => b2i_0.mp c2 z.1), fun c2 => ⟨_, hV.mf_s, _, g_tags hV hM.e ht, fun c3 => hst (Or.inl ⟨b2i_n0.mp c2, Or.inl c3⟩), fun c3 => ⟨hV.mO, c_X3_nexts hV hM.e ⟨_, rfl, fun c4 => hst (Or.inl ⟨b2i_n0.mp c2, Or.inr ?_⟩), fun c4 => hfil ?_⟩⟩⟩⟩
    · exact (nI_ltI (a := 1) (by decide) (by omega)).mp c4
    · rintro ⟨-, z | z⟩
      · exact z c3
      · exact c4 ((nI_ltI (a := 1) (by decide) (by omega)).mpr z)
  · rw [if_neg c] at h0
    exact h0 hM
theorem P_owner_ss (P : PT) (F F' : Nat → Int32) : P_owner_ (P_owner_ P F) F' = P_owner_ P F' := by
  obtain ⟨a, b, c, d, e, f, h, i, j, k, l⟩ := P
  rfl
theorem P_owner_gs (P : PT) (F : Nat → Int32) : P_owner (P_owner_ P F) = F := rfl
theorem Ch.owner {P : PT} {F : Nat → Int32} : ∀ {l : List Nat} {x : Int32}, Ch P x l → Ch (P_owner_ P F) x l := by
  intro l
  induction l with
  | nil => intro x h; exact h
  | cons i l ih =>
    intro x h
    exact ⟨h.1, h.2.1, ih h.2.2⟩
theorem lp_promote {x o i2 i3 : Int32} : ∀ (l : List Nat) (F : Nat → Int32) (y : Int32) (c : Nat) m1 w1, V (G_M_ g m1) w1 → MR m0 (P_owner_ P F) m1 → Ch P y l → (∀ m' w', V (G_M_ g m') w' → MR m0 (P_owner_ P (owS o x l F)) m' → QR (some (vI (nI (c + owN o x l F)))) w') → wp KX3_promote rc rs QR QX 52 [(0, vR (some (g_m g))), (1, vI x), (2, vI i2), (3, vI i3), (4, vI o), (5, vI (nI c)), (6, vI y)] [] w1 := by
  intro l
  induction l with
  | nil =>
    intro F y c m1 w1 hV hM hy h
    have e : y = -1 := hy
    subst e
    exact sg_X3_promote_52 ⟨fun _ => h m1 w1 hV hM, fun z => absurd rfl z⟩
  | cons i l ih =>
    intro F y c m1 w1 hV hM hy h
    obtain ⟨rfl, hi, hc⟩ := hy
    refine sg_X3_promote_52 ⟨fun z => absurd z (m1_ne i (by omega)), fun _ => ⟨_, hV.mf_s, _, g_owner hV hM.e hi, fun c2 => ⟨_, hV.mf_s, _, g_prev hV hM.e hi, ?_⟩, fun c2 => ⟨_, hV.mf_s, q_owner hV hM hi (fun m2 w2 h2 M2 => ?_)⟩⟩⟩
    · have c3 : ¬ F i = o := c2
      refine ih F _ c m1 w1 hV hM hc (fun m' w' h1 hM1 => ?_)
      have e1 : owS o x (i :: l) F = owS o x l F := by
        show owS o x l (if F i = o then fset F i x else F) = _
        rw [if_neg c3]
      have e2 : owN o x (i :: l) F = owN o x l F := by
        show (if F i = o then 1 else 0) + owN o x l (if F i = o then fset F i x else F) = _
        rw [if_neg c3, if_neg c3, Nat.zero_add]
      have := h m' w' h1
      rw [e1, e2] at this
      exact this hM1
    · have c3 : F i = o := c2
      rw [P_owner_gs, P_owner_ss] at M2
      refine ⟨_, h2.mf_s, _, g_prev h2 M2.e hi, ?_⟩
      rw [nI_1]
      refine ih (fset F i x) _ (c + 1) _ w2 h2 M2 hc (fun m' w' h1 hM1 => ?_)
      have e1 : owS o x (i :: l) F = owS o x l (fset F i x) := by
        show owS o x l (if F i = o then fset F i x else F) = _
        rw [if_pos c3]
      have e3 : c + owN o x (i :: l) F = c + 1 + owN o x l (fset F i x) := by
        show c + ((if F i = o then 1 else 0) + owN o x l (if F i = o then fset F i x else F)) = _
        rw [if_pos c3, if_pos c3]
        omega
      have := h m' w' h1
      rw [e1, e3] at this
      exact this hM1
theorem orig_mem {P : PT} {x : Int32} : ∀ (l : List Nat) {o : Nat}, orig P x l = some o → o ∈ l := by
  intro l
  induction l with
  | nil => intro o h; cases h
  | cons i l ih =>
    intro o h
    by_cases c : P_owner P i = x
    · rw [orig_t c] at h
      exact List.mem_cons_of_mem _ (ih h)
    · rw [orig_f c] at h
      cases h
      exact List.mem_cons_self
theorem Ch.mem_lt {P : PT} : ∀ {l : List Nat} {x : Int32} {i : Nat}, Ch P x l → i ∈ l → i < 20 := by
  intro l
  induction l with
  | nil => intro x i _ h; cases h
  | cons j l ih =>
    intro x i hc h
    rcases List.mem_cons.mp h with e | e
    · subst e
      exact hc.2.1
    · exact ih hc.2.2 e
theorem c_X3_promote (hV : V (G_M_ g m) w) (hM : MR m0 P m) {x : Int32} {l : List Nat} (hc : ∀ t, t < 20 → x = nI t → fK (P_kind P t) → Ch P (P_prev P t) l) (h : ∀ m' w', V (G_M_ g m') w' → MR m0 (o_promote P l x).2 m' → QR (some (vI (o_promote P l x).1)) w') : ct KX3_promote 0 0 [vR (some (g_m g)), vI x] w QR QX := by
  have h0 := h m w hV
  unfold o_promote at h h0
  refine st_X3_promote (sg_X3_promote_0 ⟨hV.mO, c_X3_asked hV hM.e ⟨_, rfl, fun c3 => ⟨hV.mO, ?_⟩, fun c3 => ?_⟩⟩)
  · rw [if_pos c3] at h h0
    obtain ⟨t, ht, rfl, hk⟩ := (ask_0 (by decide)).mp c3
    have hC := hc t ht rfl ((uKd_0 _).mp hk)
    refine c_X3_originOf hV hM.e ht hC ⟨_, rfl, fun c => ?_, fun c => ?_⟩
    · cases e : orig P (nI t) l with
      | none =>
        rw [e] at c
        exact absurd rfl c
      | some o =>
        rw [e] at h
        have ho : o < 20 := hC.mem_lt (orig_mem l e)
        refine ⟨_, hV.mf_s, _, g_owner hV hM.e ho, _, hV.mf_s, _, g_prev hV hM.e ht, ?_⟩
        refine lp_promote (P := P) l (P_owner P) _ 0 m w hV hM hC (fun m' w' h1 hM => ?_)
        rw [Nat.zero_add]
        exact h m' w' h1 hM
    · cases e : orig P (nI t) l with
      | none =>
        rw [e] at h0
        exact h0 hM
      | some o =>
        rw [e] at c
        exact absurd c (m1_ne o (by have := hC.mem_lt (orig_mem l e); omega))
  · rw [if_neg c3] at h0
    exact h0 hM
theorem c_X3_rollback (hV : V (G_M_ g m) w) (hM : MR m0 P m) (hO : SO P) (hP : PO P) {x : Int32} (h : ∀ m' w', V (G_M_ g m') w' → MR m0 (o_rollback P x).2 m' → QR (some (vI (o_rollback P x).1)) w') : ct KX3_rollback 0 0 [vR (some (g_m g)), vI x] w QR QX := by
  have h0 := h m w hV
  unfold o_rollback at h h0
  refine st_X3_rollback (sg_X3_rollback_0 ⟨hV.mO, c_X3_asked hV hM.e ⟨_, rfl, fun c3 => ?_, fun c3 => ?_⟩⟩)
  · rw [if_pos c3] at h h0
    obtain ⟨t, ht, rfl, hk⟩ := (ask_0 (by decide)).mp c3
    rw [nI_clamp (by omega)] at h h0
    refine ⟨_, hV.mf_s, _, g_prev hV hM.e ht, fun c => ?_, fun c => ?_⟩
    · rw [if_neg c] at h
      rcases hP t ht with z | ⟨i, hi, z⟩
      · exact absurd z c
      · have ep : pn P t = i := by
          unfold pn
          rw [z, nI_clamp (by omega)]
        rw [ep] at h
        refine ⟨_, hV.mf_s, _, g_prev hV hM.e ht, hV.mO, ?_⟩
        rw [z]
        exact u_takesSlots hV hM ht hi (fun m1 w1 h1 M1 => ⟨rfl, h1.mO, u_frees h1 (P := tkP P t i) M1 (hO.tk hi) (fun m2 w2 h2 M2 => ⟨_, rfl, h m2 w2 h2 M2⟩)⟩)
    · rw [if_pos c] at h0
      exact h0 hM
  · rw [if_neg c3] at h0
    exact h0 hM
theorem c_X3_tick (hV : V (G_M_ g m) w) (hM : MR m0 P m) (h : ∀ m' w', V (G_M_ g m') w' → MR m0 (o_tick P).2 m' → QR (some (vI (o_tick P).1)) w') : ct KX3_tick 0 0 [vR (some (g_m g))] w QR QX := by
  have h0 := h m w hV
  unfold o_tick at h h0
  refine st_X3_tick (sg_X3_tick_0 ⟨_, hV.mf_s, _, g_time hV hM.e, fun c => ?_, fun c => ?_⟩)
  · rw [if_pos c] at h
    exact ⟨_, hV.mf_s, _, g_time hV hM.e, q_time hV hM (fun m1 w1 h1 M1 => ⟨_, h1.mf_s, _, g_time h1 M1.e, h _ w1 h1 M1⟩)⟩
  · rw [if_neg c] at h0
    exact h0 hM
end MO
