/-! ===== the pool's changes: snapshots, marks, forks, promotions, roll-backs ===== -/
set_option maxRecDepth 100000
set_option maxHeartbeats 300000
theorem xh_tr (x : XT) (q : Nat) (r : RT) (T : Nat) : X_things (xh x q r) = X_things x := rfl
section XS
variable {l : LT} {x : XT} {m : MT} {sc : Nat × (Nat → Int32)} {w : aW} {a : AT} {P : PT} {D : DT} {t u q : Nat} {r : RT} {QR : Option aV → aW → Prop} {QX : String → aW → Prop} {rc rs : Nat}
/-- a snapshot of f at place T, before f has it for its prev -/
def snB (P : PT) (f t : Nat) (tg : Int32) : PT := sn5 (sn4 (sn2 (sn1 P f t tg) f t) f t) t tg
def NwQ (P P' : PT) (t : Nat) : Prop := P_time P' = P_time P ∧ P_freed P' = P_freed P ∧ P_size P' = P_size P ∧ P_birth P' = P_birth P ∧ ∀ u, u ≠ t → P_kind P' u = P_kind P u ∧ P_made P' u = P_made P u ∧ P_prev P' u = P_prev P u ∧ P_owner P' u = P_owner P u ∧ P_quota P' u = P_quota P u ∧ P_tags P' u = P_tags P u ∧ P_slot P' u = P_slot P u
theorem NwQ.d {P P' : PT} {D : DT} {t : Nat} {M : List Nat} (h : NwQ P P' t) : NwP P P' D (fset D t M) t := by
  obtain ⟨h1, h2, h3, h4, h5⟩ := h
  refine ⟨h1, h2, h3, h4, fun u hu => ?_⟩
  obtain ⟨a1, a2, a3, a4, a5, a6, a7⟩ := h5 u hu
  exact ⟨a1, a2, a3, a4, a5, a6, a7, fset_n hu⟩
theorem cm_nw {P : PT} {T : Nat} {k mk : Int32} : NwQ P (cmP P T k mk) T := ⟨rfl, rfl, rfl, rfl, fun u hu => ⟨fset_n hu, fset_n hu, fset_n hu, fset_n hu, fset_n hu, fset_n hu, fset_n hu⟩⟩
def SnF (P P1 : PT) (f T : Nat) (tg : Int32) : Prop := NwQ P P1 T ∧ P_kind P1 T = 2 + tg ∧ P_made P1 T = P_time P ∧ P_prev P1 T = P_prev P f ∧ P_owner P1 T = nI f ∧ P_tags P1 T = tg ∧ (∀ k, P_slot P1 T k = P_slot P f k)
theorem fu2 {α : Type} {g : Nat → α} {T u : Nat} {v v' : α} (h : u ≠ T) : fset (fset g T v) T v' u = g u := (fset_n h).trans (fset_n h)
theorem snB_f {P : PT} {f T : Nat} {tg : Int32} (hf : f ≠ T) : SnF P (snB P f T tg) f T tg := by
  unfold SnF NwQ
  simp only [snB, Z_sn5, Z_sn4, Z_sn2, sn1, Z_tkP, Z_cmP]
  refine ⟨⟨trivial, trivial, trivial, trivial, fun u hu => ⟨fset_n hu, fset_n hu, fu2 hu, fu2 hu, fset_n hu, fu2 hu, fu2 hu⟩⟩, fset_s, fset_s, ?_, fset_s, fset_s, fun k => ?_⟩
  · rw [fset_s, fset_n hf]
  · rw [fset_s, fset_n hf]
theorem snP_e {P : PT} {f T : Nat} {tg : Int32} : snP P f T tg = P_time_ (P_prev_ (snB P f T tg) (fset (P_prev (snB P f T tg)) f (nI T))) (P_time (snB P f T tg) + 1) := by
  refine PT_ext ?_ ?_ ?_ ?_ ?_ ?_ ?_ ?_ ?_ ?_ ?_ <;> simp only [snP, snB, Z_sn5, Z_sn4, Z_sn3, Z_sn2, sn1, Z_tkP, Z_cmP, Z_time, Z_prev]
theorem XK.add {T q : Nat} {x1 : XT} (h : XK x x1) : XK x (X_things_ x1 (va_up (X_things x) T (some q))) :=
  h.tr ⟨⟨rfl, rfl, rfl, rfl, rfl, fun p s hs => ⟨s, hs, rfl, rfl, rfl, rfl, rfl, fun _ => rfl⟩, fun _ _ h => h⟩, rfl⟩
theorem DT_take (D : DT) (f : Nat) : fset D f ((D f).take 0) = fset D f [] := by rw [List.take_zero]
/-- a record like r but for its number -/
def NB (r r' : RT) (v : Int32) : Prop := R_ci r' = R_ci r ∧ R_made r' = R_made r ∧ R_sa r' = R_sa r ∧ R_da r' = R_da r ∧ R_deadMany r' = R_deadMany r ∧ R_number r' = v ∧ R_prev r' = R_prev r ∧ R_owner r' = R_owner r ∧ R_qt r' = R_qt r ∧ R_slots r' = R_slots r ∧ R_dead r' = R_dead r
theorem takesPlaceA (hV : V (l, xh x q r, m, sc) w) (hX : XP x a P D) (hI : PI P) (hn : X_H x q = none) (hT : lT P < 20) (h : ∀ w' r', NB r r' (nI (lT P)) → V (l, X_things_ (xh x q r') (va_up (X_things x) (lT P) (some q)), m, sc) w' → QR (some (vI (nI (lT P)))) w') : ct KX0_takesPlace 0 0 [vR (some (L_ad l 0)), vR (some q)] w QR QX := by
  refine c_X0_takesPlace hV (hX.frH hn) hI xh_h hT (fun w' h1 => h w' (R_number_ r (nI (lT P))) ⟨rfl, rfl, rfl, rfl, rfl, rfl, rfl, rfl, rfl, rfl, rfl⟩ ?_)
  rw [xh_xh] at h1
  exact h1
/-- what a snapshot of s (at address p) is made as -/
def SHd (r : RT) (ci : Nat) (mk : Int32) (s : RT) (p N : Nat) (tq : Int32) : Prop := R_ci r = ci ∧ R_made r = mk ∧ R_deadMany r = nI N ∧ R_prev r = R_prev s ∧ R_owner r = some p ∧ R_qt r = tq ∧ (∀ k, k < 12 → R_slots r k = R_slots s k) ∧ ∀ k, k < N → R_dead r k = R_dead s k
theorem X7_initA (hV : V (l, x, m, sc) w) {q p ci : Nat} {ex : List aV} {mk : Int32} {s : RT} (hs : X_H x p = some s) (hs4 : R_ci s ∈ [4, 5]) {N : Nat} (hN : N ≤ 12) (hdm : R_deadMany s = nI N) (hq : Wc (l, x, m, sc) q = none) (hw : w q = some (.inr (ci, ob6 0 none none none ++ ex))) (hc : ci = 6 ∨ ci = 7) (hex : ∀ r, R_ci r = ci → R_owner r = none → R_qt r = 0 → R_deadMany r = 0 → R_number r = 0 → hobj r = ob6 (R_made r) (some (R_sa r)) (some (R_da r)) (R_prev r) ++ ex) (h : ∀ l' w' r, L_ad l' = L_ad l → V (l', xh x q r, m, sc) w' → X_H x q = none → SHd r ci mk s p N 0 → QR none w') : ct KX7_init 2 24 [vR (some q), vI mk, vR (some p)] w QR QX :=
  c_X7_init hV hs hs4 hN hdm hq hw hc hex (fun l' w' r F G e h1 hn hN hF hG => h l' w' _ e h1 hn ⟨hN.1, hN.2.1, rfl, hN.2.2.2.2.1, rfl, hN.2.2.2.2.2.2.1, hF, hG⟩)
theorem X8_initA (hV : V (l, x, m, sc) w) {q p : Nat} {mk : Int32} {s : RT} (hs : X_H x p = some s) (hs4 : R_ci s ∈ [4, 5]) {N : Nat} (hN : N ≤ 12) (hdm : R_deadMany s = nI N) (hq : Wc (l, x, m, sc) q = none) (hw : w q = some (.inr (7, ob6 0 none none none ++ [vR none, vI 0]))) (h : ∀ l' w' r, L_ad l' = L_ad l → V (l', xh x q r, m, sc) w' → X_H x q = none → SHd r 7 mk s p N 1 → QR none w') : ct KX8_init 2 24 [vR (some q), vI mk, vR (some p)] w QR QX := by
  refine st_X8_init (sg_X8_init_0 ⟨Nat.le_refl _, Nat.le_refl _, X7_initA hV hs hs4 hN hdm hq hw (Or.inr rfl) hx_7 (fun l' w2 r e2 h2 hn hS => ⟨rfl, ?_⟩)⟩)
  obtain ⟨a1, a2, a3, a4, a5, a6, a7, a8⟩ := hS
  refine h2.hpf_tags xh_h a1 (by rw [a1]; decide) (fun w3 h3 => h l' w3 (R_qt_ r 1) e2 ?_ hn ⟨a1, a2, a3, a4, a5, rfl, a7, a8⟩)
  have e : xh (xh x q r) q (R_qt_ r 1) = xh x q (R_qt_ r 1) := xh_xh
  rw [← e]
  exact h3
theorem c_X0_snaps_fin {l : LT} {x : XT} {w : aW} {a' : AT} {P P1 : PT} {D1 : DT} {f T q : Nat} {tg : Int32} {af : Nat} (hV : V (l, x, m, sc) w) (hX : XP x a' P1 D1) (hP : SnF P P1 f T tg) (hf : f < 20) (hT : T < 20) (hfT : f ≠ T) (hk : fK (P_kind P f)) (ea : a'.1 f = af) (eq : a'.1 T = q) {v : Int32} (h : ∀ x' w', V (l, x', m, sc) w' → XP x' a' (P_time_ (P_prev_ P1 (fset (P_prev P1) f (nI T))) (P_time P1 + 1)) (fset D1 f []) → XK x x' → QR (some (vI v)) w') : pf w af [4, 5] 5 (vR (some q)) (fun w60 => pf w60 af [4, 5] 3 (vI 0) (fun w65 => ∃ x70 : Int32, gf w65 (L_ad l 0) [0] 2 (vI x70) ∧ pf w65 (L_ad l 0) [0] 2 (vI (x70 + 1)) (fun w75 => QR (some (vI v)) w75))) := by
  have ek : P_kind P1 f = P_kind P f := (hP.1.2.2.2.2 f hfT).1
  have hk1 : fK (P_kind P1 f) := by rw [ek]; exact hk
  have hv : (some q : Option Nat) = pO a' (nI T) := by
    rw [pO_n rfl hT, eq]
  subst ea
  refine w_prev hV hX hf (cI_f hk1) hv (fun x1 w1 h1 X1 K1 => ?_)
  refine w_dm (n := 0) h1 X1 hf (cI_f hk1) (Nat.zero_le _) (fun x2 w2 h2 X2 K2 => ⟨_, x_time h2 X2, w_time h2 X2 (fun x3 w3 h3 X3 K3 => h x3 w3 h3 ?_ ((K1.tr K2).tr K3))⟩)
  rw [DT_take] at X3
  exact X3
theorem snapHR {P P1 : PT} {f T q : Nat} {tg : Int32} {r r' s : RT} {ci N : Nat} (hI : PI P) (hf : f < 20) (hT : T < 20) (hfT : f ≠ T) (hkT : P_kind P T = -1) (hk : fK (P_kind P f)) (hsr : HR a P D f s) (hci : ci = ciK (2 + tg)) (htg : tg = 0 ∨ tg = 1) (hN : N = (D f).length) (hS : SHd r ci (P_time P) s (a.1 f) N tg) (hB : NB r r' (nI T)) (hP : SnF P P1 f T tg) : HR (nwA a T q (R_sa r') (R_da r')) P1 (fset D T (D f)) T r' := by
  obtain ⟨b1, b2, b3, b4, b5, b6, b7, b8, b9, b10, b11⟩ := hB
  obtain ⟨s1, s2, s3, s4, s5, s6, s7, s8⟩ := hS
  obtain ⟨-, p1, p2, p3, p4, p5, p6⟩ := hP
  have hlen := hsr.2.2.2.2.2.2.2.2.2.2.2.1
  refine ⟨?_, ?_, (fset_s).symm, (fset_s).symm, ?_, b6, ?_, fun _ => ?_, fun y => ?_, fun y => ?_, fun k hk2 => ?_, ?_, fun i hi => ?_⟩
  · rw [b1, s1, p1, hci]
  · rw [b2, s2, p2]
  · rw [fset_s, b5, s3, hN]
  · rw [b7, s4, p3, hsr.2.2.2.2.2.2.1]
    refine (pO_new ?_).symm
    rcases hI.p hf (Or.inl hk) with z | ⟨p, hp, z, hsp⟩
    · exact Or.inl z
    · refine Or.inr ⟨p, hp, z, fun e => ?_⟩
      rw [e, hkT] at hsp
      exact absurd hsp (by decide)
  · rw [b8, s5, p4, pO_n rfl hf]
    exact congrArg some (fset_n hfT).symm
  · rw [p1] at y
    rcases htg with e | e <;> (rw [e] at y; exact absurd y (by decide))
  · rw [b9, s6, p5]
  · rw [b10, p6, s7 k hk2]
    exact hsr.2.2.2.2.2.2.2.2.2.2.1 k hk2
  · rw [fset_s]; exact hlen
  · rw [fset_s] at hi ⊢
    rw [b11, s8 i (by omega)]
    exact hsr.2.2.2.2.2.2.2.2.2.2.2.2 i hi
theorem c_X0_snapsA (hV : V (l, x, m, sc) w) (hX : XP x a P D) (hI : PI P) {f : Nat} (hf : f < 20) (hk : fK (P_kind P f)) {tg : Int32} (htg : tg = 0 ∨ tg = 1) {P1 : PT} (hP1 : lT P < 20 → SnF P P1 f (lT P) tg) (h0 : lT P = 20 → QR (some (vI (-4))) w) (h : lT P < 20 → ∀ l' x' a' w', L_ad l' = L_ad l → V (l', x', m, sc) w' → XP x' a' (P_time_ (P_prev_ P1 (fset (P_prev P1) f (nI (lT P)))) (P_time P1 + 1)) (fset (fset D (lT P) (D f)) f []) → XK x x' → QR (some (vI (nI (lT P)))) w') : ct KX0_snaps 3 36 [vR (some (L_ad l 0)), vR (some (a.1 f)), vI tg] w QR QX := by
  obtain ⟨s, hs, hsr⟩ := hX.h hf (Or.inl hk)
  have hs4 : R_ci s ∈ [4, 5] := hsr.c (cI_f hk)
  have hlen := hX.dl hf (Or.inl hk)
  have hfT : lT P < 20 → f ≠ lT P := fun hT e => by
    have := lT_free hT
    rw [← e] at this
    rw [this] at hk
    exact absurd hk (by decide)
  have go : ∀ (hT : lT P < 20) (q : Nat) (ci : Nat) (l' : LT) (w2 : aW) (r : RT), ci = ciK (2 + tg) → L_ad l' = L_ad l → V (l', xh x q r, m, sc) w2 → X_H x q = none → SHd r ci (P_time P) s (a.1 f) (D f).length tg → isO w2 (L_ad l 0) 0 ∧ ct (KX0_takesPlace) 0 0 [vR (some (L_ad l 0)), vR (some q)] w2 (fun v52 w52 => ∃ x52 : Int32, v52 = some (vI x52) ∧ pf w52 (a.1 f) [4, 5] 5 (vR (some q)) (fun w60 => pf w60 (a.1 f) [4, 5] 3 (vI 0) (fun w65 => ∃ x70 : Int32, gf w65 (L_ad l 0) [0] 2 (vI x70) ∧ pf w65 (L_ad l 0) [0] 2 (vI (x70 + 1)) (fun w75 => QR (some (vI x52)) w75)))) (fun E52 w52 => False) := by
    intro hT q ci l' w2 r hci e2 h2 hnone hS
    have hfn := hfT hT
    rw [← e2]
    refine ⟨h2.xO, takesPlaceA h2 hX hI hnone hT (fun w3 r' hB h3 => ⟨_, rfl, ?_⟩)⟩
    have hkT := lT_free hT
    have ek : hK (P_kind P1 (lT P)) := by
      rw [(hP1 hT).2.1]
      rcases htg with e | e <;> (rw [e]; decide)
    have X3 := hX.new (r := r') (q := q) hI hT hkT hnone ((hP1 hT).1.d (M := D f)) ek (snapHR hI hf hT hfn hkT hk hsr hci htg rfl hS hB (hP1 hT))
    exact c_X0_snaps_fin h3 X3 (hP1 hT) hf hT hfn hk (fset_n hfn) fset_s (fun x4 w4 h4 X4 K4 => h hT l' x4 _ w4 e2 h4 X4 ((XK.add (XK.frH hnone)).tr K4))
  refine st_X0_snaps (sg_X0_snaps_0 ⟨fun e => (by cases e), fun q0 e => ?_⟩)
  cases e
  refine ⟨_, x_num hV hX hf (cI_f hk), hV.xO, c_X0_leastThing hV hX hI ⟨_, rfl, fun c2 => ⟨fun c3 => ?_, fun c3 => ?_⟩, fun c2 => h0 ?_⟩⟩
  · have cT : ¬ lT P = 20 := fun z => c2 (if_pos z)
    have hT : lT P < 20 := by have := lT_le P; omega
    refine ⟨by decide, by decide, fun qa w1 hn hw => ?_⟩
    have hq := hV.nowh hn
    have hV1 : V (l, x, m, sc) w1 := by rw [hw]; exact hV.nw hq
    refine ⟨_, x_time hV1 hX, by decide, by decide, X7_initA (ex := [vR none]) hV1 hs hs4 hlen hsr.2.2.2.2.1 hq (by rw [hw]; exact aup_self _ _ _) (Or.inl rfl) hx_6 (fun l' w2 r e2 h2 hnone hS => ⟨rfl, go hT qa 6 l' w2 r (by rw [c3]; decide) e2 h2 hnone (by rw [c3]; exact hS)⟩)⟩
  · have cT : ¬ lT P = 20 := fun z => c2 (if_pos z)
    have hT : lT P < 20 := by have := lT_le P; omega
    have e1 : tg = 1 := htg.resolve_left c3
    refine ⟨by decide, by decide, fun qa w1 hn hw => ?_⟩
    have hq := hV.nowh hn
    have hV1 : V (l, x, m, sc) w1 := by rw [hw]; exact hV.nw hq
    refine ⟨_, x_time hV1 hX, by decide, by decide, X8_initA hV1 hs hs4 hlen hsr.2.2.2.2.1 hq (by rw [hw]; exact aup_self _ _ _) (fun l' w2 r e2 h2 hnone hS => ⟨rfl, go hT qa 7 l' w2 r (by rw [e1]; decide) e2 h2 hnone (by rw [e1]; exact hS)⟩)⟩
  · refine Classical.byContradiction (fun z => ?_)
    rw [if_neg z] at c2
    exact m1_ne _ (by have := lT_le P; omega) c2
theorem c_X0_snaps (hV : V (l, x, m, sc) w) (hX : XP x a P D) (hI : PI P) {f : Nat} (hf : f < 20) (hk : fK (P_kind P f)) {tg : Int32} (htg : tg = 0 ∨ tg = 1) (h0 : lT P = 20 → QR (some (vI (-4))) w) (h : lT P < 20 → ∀ l' x' a' w', L_ad l' = L_ad l → V (l', x', m, sc) w' → XP x' a' (snP P f (lT P) tg) (fset (fset D (lT P) (D f)) f []) → XK x x' → QR (some (vI (nI (lT P)))) w') : ct KX0_snaps 3 36 [vR (some (L_ad l 0)), vR (some (a.1 f)), vI tg] w QR QX := by
  refine c_X0_snapsA (P1 := snB P f (lT P) tg) hV hX hI hf hk htg (fun hT => snB_f (fun e => ?_)) h0 (fun hT l' x' a' w' e1 h1 X1 K1 => ?_)
  · have := lT_free hT
    rw [← e] at this
    rw [this] at hk
    exact absurd hk (by decide)
  · rw [← snP_e] at X1
    exact h hT l' x' a' w' e1 h1 X1 K1
noncomputable def snD (P : PT) (D : DT) (f : Nat) : DT := fset (fset D (lT P) (D f)) f []
theorem c_X0_snap (hV : V (l, x, m, sc) w) (hX : XP x a P D) (hI : PI P) {i tg : Int32} (h0 : (o_snap P i tg).2 = P → QR (some (vI (o_snap P i tg).1)) w) (h : ∀ f, f < 20 → i = nI f → fK (P_kind P f) → inI tg 0 1 → lT P < 20 → o_snap P i tg = (nI (lT P), snP P f (lT P) tg) → ∀ l' x' a' w', L_ad l' = L_ad l → V (l', x', m, sc) w' → XP x' a' (snP P f (lT P) tg) (snD P D f) → XK x x' → QR (some (vI (nI (lT P)))) w') : ct KX0_snap 4 960 [vR (some (L_ad l 0)), vI i, vI tg] w QR QX := by
  unfold o_snap at h0 h
  have npe : ∀ v : Int32, (QR (some (vI (-11))) w) → ct (KX0_snaps) 3 36 [vR (some (L_ad l 0)), vR none, vI v] w (fun v32 w32 => ∃ x32 : Int32, v32 = some (vI x32) ∧ QR (some (vI x32)) w32) (fun E32 w32 => (E32 = "java/lang/NullPointerException" ∧ QR (some (vI (-11))) w32)) :=
    fun v hq => st_X0_snaps (sg_X0_snaps_0 ⟨fun _ => ⟨by decide, by decide, rfl, hq⟩, fun q y => (by cases y)⟩)
  refine st_X0_snap (sg_X0_snap_0 (c_X0_inI 0 1 (by decide) (by decide) ⟨_, rfl, fun c => ⟨by decide, by decide, hV.xO, c_X0_thingAt hV hX hI (fun t ht e => ⟨_, rfl, fun z => ?_, fun q z => ?_⟩) (fun z => ⟨rfl, ?_⟩)⟩, fun c => ?_⟩))
  · subst e
    rw [if_pos (b2i_n0.mp c), ask_none ht (thO_none z), if_neg (by decide)] at h0
    exact ⟨fun _ => ⟨by decide, by decide, hV.xO, npe 0 (h0 rfl)⟩, fun _ => ⟨by decide, by decide, hV.xO, npe 1 (h0 rfl)⟩⟩
  · subst e
    obtain ⟨hn, rfl⟩ := thO_some z
    have h01 : tg = 0 ∨ tg = 1 := by
      obtain ⟨k, hk, rfl⟩ := lit_c (n := 1) (b2i_n0.mp c).1 (b2i_n0.mp c).2 (by decide)
      have : k = 0 ∨ k = 1 := by omega
      rcases this with rfl | rfl
      · exact Or.inl rfl
      · exact Or.inr rfl
    by_cases cf : fK (P_kind P t)
    · have ha := ask_ok (j := 0) ht hn ((uKd_0 _).mpr cf)
      rw [if_pos (b2i_n0.mp c), if_pos ha] at h0
      have hh := h t ht rfl cf (b2i_n0.mp c)
      rw [if_pos (b2i_n0.mp c), if_pos ha, nI_clamp (by omega)] at hh
      have body : ct (KX0_snaps) 3 36 [vR (some (L_ad l 0)), vR (some (a.1 t)), vI tg] w (fun v32 w32 => ∃ x32 : Int32, v32 = some (vI x32) ∧ QR (some (vI x32)) w32) (fun E32 w32 => (E32 = "java/lang/NullPointerException" ∧ QR (some (vI (-11))) w32)) := by
        refine c_X0_snaps hV hX hI ht cf h01 (fun cT => ⟨_, rfl, ?_⟩) (fun hT l' x' a' w' e1 h1 X1 K1 => ⟨_, rfl, ?_⟩)
        · rw [if_pos cT] at h0
          exact h0 rfl
        · rw [if_neg (by omega)] at hh
          exact hh hT rfl l' x' a' w' e1 h1 X1 K1
      refine Or.inl ⟨x_ck hV hX ht (cI_f cf), fun y => ⟨by decide, by decide, hV.xO, ?_⟩, fun y => ⟨by decide, by decide, hV.xO, ?_⟩⟩
      · rw [h01.resolve_right y] at body
        exact body
      · rw [y] at body
        exact body
    · rw [if_pos (b2i_n0.mp c), ask_bad ht hn (fun y => cf ((uKd_0 _).mp y)), if_neg (by decide)] at h0
      exact Or.inr ⟨x_cka hV hX hI ht hn (ci_nf hI ht hn cf), by decide, by decide, h0 rfl⟩
  · rw [if_pos (b2i_n0.mp c), ask_out z, if_neg (by decide)] at h0
    exact h0 rfl
  · rw [if_neg (b2i_0.mp c)] at h0
    exact h0 rfl
def FkF (P P1 : PT) (f T : Nat) : Prop := NwQ P P1 T ∧ P_kind P1 T = 0 ∧ P_made P1 T = P_time P ∧ P_prev P1 T = nI f ∧ (∀ k, P_slot P1 T k = P_slot P f k)
theorem fkP_f {P : PT} {f T : Nat} (hf : f ≠ T) : FkF P (fkP P f T) f T := by
  unfold FkF NwQ
  simp only [fkP, Z_prev, Z_tkP, Z_cmP]
  refine ⟨⟨trivial, trivial, trivial, trivial, fun u hu => ⟨fset_n hu, fset_n hu, fu2 hu, fset_n hu, fset_n hu, fset_n hu, fu2 hu⟩⟩, fset_s, fset_s, fset_s, fun k => ?_⟩
  rw [fset_s, fset_n hf]
theorem forkHR {P P1 : PT} {f T q : Nat} {r r' s : RT} (hf : f < 20) (hfT : f ≠ T) (hsr : HR a P D f s) (hS : R_ci r = 4 ∧ R_made r = P_time P ∧ R_deadMany r = 0 ∧ R_prev r = some (a.1 f) ∧ ∀ k, k < 12 → R_slots r k = R_slots s k) (hB : NB r r' (nI T)) (hP : FkF P P1 f T) : HR (nwA a T q (R_sa r') (R_da r')) P1 (fset D T []) T r' := by
  obtain ⟨b1, b2, b3, b4, b5, b6, b7, b8, b9, b10, b11⟩ := hB
  obtain ⟨s1, s2, s3, s4, s5⟩ := hS
  obtain ⟨-, p1, p2, p3, p4⟩ := hP
  refine ⟨?_, ?_, (fset_s).symm, (fset_s).symm, ?_, b6, ?_, fun y => ?_, fun y => ?_, fun y => ?_, fun k hk2 => ?_, ?_, fun i hi => ?_⟩
  · rw [b1, s1, p1]; decide
  · rw [b2, s2, p2]
  · rw [fset_s, b5, s3]; rfl
  · rw [b7, s4, p3, pO_n rfl hf]
    exact congrArg some (fset_n hfT).symm
  · rw [p1] at y; exact absurd y (by decide)
  · rw [p1] at y; exact absurd y (by decide)
  · rw [p1] at y; exact absurd y (by decide)
  · rw [b10, p4, s5 k hk2]
    exact hsr.2.2.2.2.2.2.2.2.2.2.1 k hk2
  · rw [fset_s]; exact Nat.zero_le _
  · rw [fset_s] at hi; exact absurd hi (Nat.not_lt_zero _)
theorem c_X0_forksA (hV : V (l, x, m, sc) w) (hX : XP x a P D) (hI : PI P) {s : Nat} (hs : s < 20) (hk : sK (P_kind P s)) {P1 : PT} (hP1 : lT P < 20 → FkF P P1 s (lT P)) (h0 : lT P = 20 → QR (some (vI (-4))) w) (h : lT P < 20 → ∀ l' x' a' w', L_ad l' = L_ad l → V (l', x', m, sc) w' → XP x' a' P1 (fset D (lT P) []) → XK x x' → QR (some (vI (nI (lT P)))) w') : ct KX0_forks 3 36 [vR (some (L_ad l 0)), vR (some (a.1 s))] w QR QX := by
  obtain ⟨sr, hsr1, hsr⟩ := hX.h hs (Or.inr hk)
  refine st_X0_forks (sg_X0_forks_0 ⟨fun e => (by cases e), fun q0 e => ?_⟩)
  cases e
  refine ⟨_, x_num hV hX hs (cI_s hk), hV.xO, c_X0_leastThing hV hX hI ⟨_, rfl, fun c2 => ?_, fun c2 => h0 ?_⟩⟩
  · have cT : ¬ lT P = 20 := fun z => c2 (if_pos z)
    have hT : lT P < 20 := by have := lT_le P; omega
    have hkT := lT_free hT
    have hfn : s ≠ lT P := fun e => by
      rw [← e] at hkT
      rw [hkT] at hk
      exact absurd hk (by decide)
    refine ⟨by decide, by decide, fun qa w1 hn hw => ?_⟩
    have hq := hV.nowh hn
    have hV1 : V (l, x, m, sc) w1 := by rw [hw]; exact hV.nw hq
    refine ⟨_, x_time hV1 hX, by decide, by decide, c_X5_init hV1 hq (by rw [hw]; exact aup_self _ _ _) (fun l' w2 r e2 h2 hnone hN => ⟨rfl, ?_⟩)⟩
    rw [← e2]
    have hsq : a.1 s ≠ qa := fun e => by rw [← e, hsr1] at hnone; cases hnone
    obtain ⟨n1, n2, n3, n4, n5, n6, n7, n8⟩ := hN
    refine ⟨h2.hck xh_h (by rw [n1]; decide), c_X4_takesSlots h2 xh_h ((xh_o hsq).trans hsr1) hsq (fun w3 F h3 hF => ⟨rfl, ?_⟩)⟩
    rw [xh_xh] at h3
    refine ⟨h3.xO, takesPlaceA h3 hX hI hnone hT (fun w4 r' hB h4 => ⟨_, rfl, ?_⟩)⟩
    have ek : hK (P_kind P1 (lT P)) := by rw [(hP1 hT).2.1]; decide
    have X4 := hX.new (r := r') (q := qa) hI hT hkT hnone ((hP1 hT).1.d (M := [])) ek (forkHR (r := R_slots_ r F) hs hfn hsr ⟨n1, n2, n3, n5, hF⟩ hB (hP1 hT))
    exact h hT l' _ _ w4 e2 h4 X4 (XK.add (XK.frH hnone))
  · refine Classical.byContradiction (fun z => ?_)
    rw [if_neg z] at c2
    exact m1_ne _ (by have := lT_le P; omega) c2
theorem c_X0_forks (hV : V (l, x, m, sc) w) (hX : XP x a P D) (hI : PI P) {s : Nat} (hs : s < 20) (hk : sK (P_kind P s)) (h0 : lT P = 20 → QR (some (vI (-4))) w) (h : lT P < 20 → ∀ l' x' a' w', L_ad l' = L_ad l → V (l', x', m, sc) w' → XP x' a' (fkP P s (lT P)) (fset D (lT P) []) → XK x x' → QR (some (vI (nI (lT P)))) w') : ct KX0_forks 3 36 [vR (some (L_ad l 0)), vR (some (a.1 s))] w QR QX := by
  refine c_X0_forksA (P1 := fkP P s (lT P)) hV hX hI hs hk (fun hT => fkP_f (fun e => ?_)) h0 h
  have := lT_free hT
  rw [← e] at this
  rw [this] at hk
  exact absurd hk (by decide)
theorem c_X0_fork (hV : V (l, x, m, sc) w) (hX : XP x a P D) (hI : PI P) {i : Int32} (h0 : (o_fork P i).2 = P → QR (some (vI (o_fork P i).1)) w) (h : ∀ s, s < 20 → i = nI s → sK (P_kind P s) → lT P < 20 → o_fork P i = (nI (lT P), fkP P s (lT P)) → ∀ l' x' a' w', L_ad l' = L_ad l → V (l', x', m, sc) w' → XP x' a' (fkP P s (lT P)) (fset D (lT P) []) → XK x x' → QR (some (vI (nI (lT P)))) w') : ct KX0_fork 4 960 [vR (some (L_ad l 0)), vI i] w QR QX := by
  unfold o_fork at h0 h
  refine st_X0_fork (sg_X0_fork_0 ⟨by decide, by decide, hV.xO, c_X0_thingAt hV hX hI (fun t ht e => ⟨_, rfl, fun z => ?_, fun q z => ?_⟩) (fun z => ⟨rfl, ?_⟩)⟩)
  · subst e
    rw [ask_none ht (thO_none z), if_neg (by decide)] at h0
    exact ⟨by decide, by decide, hV.xO, st_X0_forks (sg_X0_forks_0 ⟨fun _ => ⟨by decide, by decide, rfl, h0 rfl⟩, fun q y => (by cases y)⟩)⟩
  · subst e
    obtain ⟨hn, rfl⟩ := thO_some z
    by_cases cs : sK (P_kind P t)
    · have ha := ask_ok (j := 2) ht hn ((uKd_2 _).mpr cs)
      rw [if_pos ha] at h0
      have hh := h t ht rfl cs
      rw [if_pos ha, nI_clamp (by omega)] at hh
      refine Or.inl ⟨x_ck hV hX ht (cI_s cs), by decide, by decide, hV.xO, c_X0_forks hV hX hI ht cs (fun cT => ⟨_, rfl, ?_⟩) (fun hT l' x' a' w' e1 h1 X1 K1 => ⟨_, rfl, ?_⟩)⟩
      · rw [if_pos cT] at h0
        exact h0 rfl
      · rw [if_neg (by omega)] at hh
        exact hh hT rfl l' x' a' w' e1 h1 X1 K1
    · rw [ask_bad ht hn (fun y => cs ((uKd_2 _).mp y)), if_neg (by decide)] at h0
      exact Or.inr ⟨x_cka hV hX hI ht hn (ci_ns hI ht hn cs), by decide, by decide, h0 rfl⟩
  · rw [ask_out z, if_neg (by decide)] at h0
    exact h0 rfl
theorem c_X0_mark (hV : V (l, x, m, sc) w) (hX : XP x a P D) (hI : PI P) {i : Int32} (h0 : ∀ w', V (l, x, m, sc) w' → (o_mark P i).2 = P → QR (some (vI (o_mark P i).1)) w') (h : ∀ s, s < 20 → i = nI s → sK (P_kind P s) → lT P < 20 → o_mark P i = (nI (lT P), cmP P (lT P) 4 (P_made P s)) → ∀ l' x' a' w', L_ad l' = L_ad l → V (l', x', m, sc) w' → XP x' a' (cmP P (lT P) 4 (P_made P s)) D → XK x x' → QR (some (vI (nI (lT P)))) w') : ct KX0_mark 4 960 [vR (some (L_ad l 0)), vI i] w QR QX := by
  unfold o_mark at h0 h
  refine st_X0_mark (sg_X0_mark_0 ⟨by decide, by decide, hV.xO, c_X0_thingAt hV hX hI (fun t ht e => ⟨_, rfl, fun z => ?_, fun q z => ?_⟩) (fun z => ⟨rfl, ?_⟩)⟩)
  · subst e
    rw [ask_none ht (thO_none z), if_neg (by decide)] at h0
    exact ⟨by decide, by decide, fun qa w1 hn hw => ⟨by decide, by decide, h0 w1 (by rw [hw]; exact hV.nw (hV.nowh hn)) rfl⟩⟩
  · subst e
    obtain ⟨hn, rfl⟩ := thO_some z
    by_cases cs : sK (P_kind P t)
    · have ha := ask_ok (j := 2) ht hn ((uKd_2 _).mpr cs)
      rw [if_pos ha] at h0
      have hh := h t ht rfl cs
      rw [if_pos ha, nI_clamp (by omega)] at hh
      refine Or.inl ⟨x_ck hV hX ht (cI_s cs), by decide, by decide, fun qa w1 hn2 hw => ?_⟩
      have hq := hV.nowh hn2
      have hV1 : V (l, x, m, sc) w1 := by rw [hw]; exact hV.nw hq
      have e1 : w1 qa = some (.inr (8, [vI 0])) := by rw [hw]; exact aup_self _ _ _
      refine ⟨_, x_made hV1 hX ht (cI_s cs), st_X9_init (sg_X9_init_0 ⟨8, _, e1, by decide, by decide, rfl, ?_⟩)⟩
      have hV2 := hV1.nw (c := .inr (8, [vI (P_made P t)])) hq
      refine ⟨hV2.xO, c_X0_leastThing hV2 hX hI ⟨_, rfl, fun c2 => ?_, fun c2 => ?_⟩⟩
      · have cT : ¬ lT P = 20 := fun z => c2 (if_pos z)
        have hT : lT P < 20 := by have := lT_le P; omega
        rw [if_neg cT] at hh
        rw [if_neg cT]
        obtain ⟨l', e2, hV3⟩ := hV2.newB hq (aup_self _ _ _)
        have hb : X_B x qa = none := by
          cases e : X_B x qa with
          | none => rfl
          | some v => exact absurd hq (hV.1.bm (g := (l, x, m, sc)) e)
        rw [← e2]
        refine ⟨_, hV3.xf4, ⟨_, aup_self _ _ _, List.mem_cons_of_mem _ (List.mem_cons_of_mem _ (List.mem_cons_of_mem _ (List.mem_cons_of_mem _ (List.mem_singleton.mpr rfl))))⟩, hV3.xadd hT (fun w4 h4 => ?_)⟩
        refine hh hT rfl l' _ _ w4 e2 h4 (hX.newB hI hT (lT_free hT) hb ⟨rfl, rfl, rfl, rfl, fun u hu => ⟨fset_n hu, fset_n hu, fset_n hu, fset_n hu, fset_n hu, fset_n hu, fset_n hu, rfl⟩⟩ fset_s fset_s) ?_
        refine ⟨⟨rfl, rfl, rfl, rfl, rfl, fun p s hs => ⟨s, hs, rfl, rfl, rfl, rfl, rfl, fun _ => rfl⟩, fun p v hv => ?_⟩, rfl⟩
        show fset (X_B x) qa (some (P_made P t)) p = some v
        rw [fset_n (fun e => by rw [e, hb] at hv; cases hv)]
        exact hv
      · have cT : lT P = 20 := by
          refine Classical.byContradiction (fun z => ?_)
          rw [if_neg z] at c2
          exact m1_ne _ (by have := lT_le P; omega) c2
        rw [if_pos cT] at h0
        exact h0 _ hV2 rfl
    · rw [ask_bad ht hn (fun y => cs ((uKd_2 _).mp y)), if_neg (by decide)] at h0
      exact Or.inr ⟨x_cka hV hX hI ht hn (ci_ns hI ht hn cs), by decide, by decide, h0 w hV rfl⟩
  · rw [ask_out z, if_neg (by decide)] at h0
    exact h0 w hV rfl
/-! promotions -/
def OwOK (P : PT) (F : Nat → Int32) : Prop := ∀ t, t < 20 → sK (P_kind P t) → ∃ f : Nat, f < 20 ∧ F t = nI f ∧ fK (P_kind P f)
theorem PI.ow {F : Nat → Int32} (hI : PI P) (h : OwOK P F) : PI (P_owner_ P F) := ⟨hI.1, hI.2.1, h, hI.2.2.2⟩
theorem lp_promotes {f o : Nat} (hI : PI P) (hf : f < 20) (hkf : fK (P_kind P f)) (ho : o < 20) (hko : fK (P_kind P o)) {r2 : Option Nat} : ∀ (L : List Nat) (y : Int32) (F : Nat → Int32) (c : Nat) (x1 : XT) (w1 : aW), CS P L → Ch P y L → OwOK P F → V (l, x1, m, sc) w1 → XP x1 a (P_owner_ P F) D → XK x x1 → (∀ x' w', V (l, x', m, sc) w' → XP x' a (P_owner_ P (owS (nI o) (nI f) L F)) D → XK x x' → QR (some (vI (nI (c + owN (nI o) (nI f) L F)))) w') → wp KX0_promotes rc rs QR QX 23 [(0, vR (some (L_ad l 0))), (1, vR (some (a.1 f))), (2, vR r2), (3, vR (some (a.1 o))), (4, vI (nI c)), (5, vR (pO a y))] [] w1 := by
  intro L
  induction L with
  | nil =>
    intro y F c x1 w1 _ hy hO h1 X1 K1 h
    rw [hy.pO]
    exact sg_X0_promotes_23 ⟨fun _ => h x1 w1 h1 X1 K1, fun q e => (by cases e)⟩
  | cons i L ih =>
    intro y F c x1 w1 hcs hy hO h1 X1 K1 h
    rw [hy.pO]
    obtain ⟨hi, hs⟩ := hcs i (List.mem_cons_self ..)
    have cs2 : CS P L := fun j hj => hcs j (List.mem_cons_of_mem _ hj)
    have I1 : PI (P_owner_ P F) := hI.ow hO
    obtain ⟨g, o1, o2, o3, o4, o5⟩ := oO_eq X1 I1 hi hs ho (Or.inl hko)
    have o5' : some (a.1 g) = some (a.1 o) ↔ F i = nI o := o5
    refine sg_X0_promotes_23 ⟨fun e => (by cases e), fun q e => ?_⟩
    cases e
    refine ⟨_, o1 _ _ _ _ _ h1 (cI_s hs), fun c1 => ⟨_, x_prev h1 X1 hi (cI_s hs), ?_⟩, fun c1 => ?_⟩
    · have ne : ¬ F i = nI o := fun z => c1 (o5'.mpr z)
      refine ih _ F c x1 w1 cs2 hy.2.2 hO h1 X1 K1 (fun x' w' h2 X2 K2 => ?_)
      have e1 : owS (nI o) (nI f) (i :: L) F = owS (nI o) (nI f) L F := by
        show owS (nI o) (nI f) L (if F i = nI o then fset F i (nI f) else F) = _
        rw [if_neg ne]
      have e2 : owN (nI o) (nI f) (i :: L) F = owN (nI o) (nI f) L F := by
        show (if F i = nI o then 1 else 0) + owN (nI o) (nI f) L (if F i = nI o then fset F i (nI f) else F) = _
        rw [if_neg ne, if_neg ne, Nat.zero_add]
      have := h x' w' h2 (by rw [e1]; exact X2) K2
      rw [e2] at this
      exact this
    · have eq : F i = nI o := o5'.mp c1
      refine w_owner h1 X1 hi hs (cI_s hs) (v := nI f) (pO_n rfl hf).symm (fun x2 w2 h2 X2 K2 => ⟨_, x_prev h2 X2 hi (cI_s hs), ?_⟩)
      rw [nI_1]
      have hO2 : OwOK P (fset F i (nI f)) := by
        intro t ht hst
        by_cases c2 : t = i
        · rw [c2, fset_s]
          exact ⟨f, hf, rfl, hkf⟩
        · rw [fset_n c2]
          exact hO t ht hst
      refine ih _ (fset F i (nI f)) (c + 1) x2 w2 cs2 hy.2.2 hO2 h2 X2 (K1.tr K2) (fun x' w' h3 X3 K3 => ?_)
      have e1 : owS (nI o) (nI f) (i :: L) F = owS (nI o) (nI f) L (fset F i (nI f)) := by
        show owS (nI o) (nI f) L (if F i = nI o then fset F i (nI f) else F) = _
        rw [if_pos eq]
      have e2 : owN (nI o) (nI f) (i :: L) F = 1 + owN (nI o) (nI f) L (fset F i (nI f)) := by
        show (if F i = nI o then 1 else 0) + owN (nI o) (nI f) L (if F i = nI o then fset F i (nI f) else F) = _
        rw [if_pos eq, if_pos eq]
      have := h x' w' h3 (by rw [e1]; exact X3) K3
      rw [e2, show c + (1 + owN (nI o) (nI f) L (fset F i (nI f))) = c + 1 + owN (nI o) (nI f) L (fset F i (nI f)) by omega] at this
      exact this
/-- the chain from the first on that another owns -/
theorem orig_sfx : ∀ (L : List Nat) (y v : Int32) (o : Nat), Ch P y L → orig P v L = some o → ∃ L', Ch P (nI o) L' ∧ (∀ i, i ∈ L' → i ∈ L) ∧ ¬ P_owner P o = v ∧ ∀ ow : Int32, ¬ ow = v → owS ow v L (P_owner P) = owS ow v L' (P_owner P) ∧ owN ow v L (P_owner P) = owN ow v L' (P_owner P) := by
  intro L
  induction L with
  | nil =>
    intro y v o _ h
    cases h
  | cons i L ih =>
    intro y v o hc h
    by_cases c : P_owner P i = v
    · rw [orig_t c] at h
      obtain ⟨L', h1, h2, h3, h4⟩ := ih _ v o hc.2.2 h
      refine ⟨L', h1, fun j hj => List.mem_cons_of_mem _ (h2 j hj), h3, fun ow hv => ?_⟩
      have ne : ¬ P_owner P i = ow := fun z => hv (z.symm.trans c)
      obtain ⟨e1, e2⟩ := h4 ow hv
      refine ⟨?_, ?_⟩
      · show owS ow v L (if P_owner P i = ow then _ else P_owner P) = _
        rw [if_neg ne]
        exact e1
      · show (if P_owner P i = ow then 1 else 0) + owN ow v L (if P_owner P i = ow then _ else P_owner P) = _
        rw [if_neg ne, if_neg ne, Nat.zero_add]
        exact e2
    · rw [orig_f c] at h
      cases h
      exact ⟨i :: L, ⟨rfl, hc.2.1, hc.2.2⟩, fun j hj => hj, c, fun ow hv => ⟨rfl, rfl⟩⟩
theorem c_X0_promotes (hV : V (l, x, m, sc) w) (hX : XP x a P D) (hI : PI P) {f : Nat} (hf : f < 20) (hk : fK (P_kind P f)) {L : List Nat} (hc : Ch P (P_prev P f) L) (h0 : orig P (nI f) L = none → QR (some (vI (-3))) w) (h : ∀ o, orig P (nI f) L = some o → ∀ x' w', V (l, x', m, sc) w' → XP x' a (P_owner_ P (owS (P_owner P o) (nI f) L (P_owner P))) D → XK x x' → QR (some (vI (nI (owN (P_owner P o) (nI f) L (P_owner P))))) w') : ct KX0_promotes 1 8 [vR (some (L_ad l 0)), vR (some (a.1 f))] w QR QX := by
  have hcs := hI.cs hf (Or.inl hk) hc
  refine st_X0_promotes (sg_X0_promotes_0 ⟨Nat.le_refl _, Nat.le_refl _, c_X0_originOf hV hX hI hf hk hc ⟨_, rfl, fun e => h0 ?_, fun q e => ?_⟩⟩)
  · cases eo : orig P (nI f) L with
    | none => rfl
    | some o =>
      rw [eo] at e
      cases e
  · cases eo : orig P (nI f) L with
    | none =>
      rw [eo] at e
      cases e
    | some o =>
      rw [eo] at e
      cases e
      obtain ⟨L', s1, s2, s3, s4⟩ := orig_sfx L _ _ o hc eo
      obtain ⟨ho, hso⟩ := hcs o (origX_mem L _ o eo)
      obtain ⟨g, hg, eg, hkg⟩ := hI.o ho hso
      have hh := h o eo
      obtain ⟨e1, e2⟩ := s4 (P_owner P o) s3
      rw [e1, e2, eg] at hh
      refine ⟨_, x_owner hV hX ho hso (cI_s hso) hg eg, ?_⟩
      have := lp_promotes (x := x) (rc := 1 - 1) (rs := 8 - 8) (QR := QR) (QX := QX) (r2 := some (a.1 o)) (sc := sc) (m := m) (l := l) (a := a) (D := D) hI hf hk hg hkg L' (nI o) (P_owner P) 0 x w (fun j hj => hcs j (s2 j hj)) s1 hI.2.2.1 hV hX (XK.rf x) (fun x' w' h1 X1 K1 => by
        rw [Nat.zero_add]
        exact hh x' w' h1 X1 K1)
      rw [pO_n rfl ho] at this
      exact this
theorem c_X0_promote (hV : V (l, x, m, sc) w) (hX : XP x a P D) (hI : PI P) {i : Int32} {L : List Nat} (hc : ∀ t, t < 20 → i = nI t → fK (P_kind P t) → Ch P (P_prev P t) L) (h : ∀ x' w', V (l, x', m, sc) w' → XP x' a (o_promote P L i).2 D → XK x x' → QR (some (vI (o_promote P L i).1)) w') : ct KX0_promote 4 960 [vR (some (L_ad l 0)), vI i] w QR QX := by
  have h0 := h x w hV
  unfold o_promote at h h0
  refine st_X0_promote (sg_X0_promote_0 ⟨by decide, by decide, hV.xO, c_X0_thingAt hV hX hI (fun t ht e => ⟨_, rfl, fun z => ?_, fun q z => ?_⟩) (fun z => ⟨rfl, ?_⟩)⟩)
  · subst e
    rw [ask_none ht (thO_none z), if_neg (by decide)] at h0
    refine ⟨by decide, by decide, hV.xO, st_X0_promotes (sg_X0_promotes_0 ⟨Nat.le_refl _, Nat.le_refl _, st_X0_originOf (sg_X0_originOf_0 ⟨fun _ => ⟨Nat.le_refl _, Nat.le_refl _, rfl, rfl, ?_⟩, fun q y => (by cases y)⟩)⟩)⟩
    exact h0 hX (XK.rf x)
  · subst e
    obtain ⟨hn, rfl⟩ := thO_some z
    by_cases cf : fK (P_kind P t)
    · have ha := ask_ok (j := 0) ht hn ((uKd_0 _).mpr cf)
      rw [if_pos ha] at h h0
      refine Or.inl ⟨x_ck hV hX ht (cI_f cf), by decide, by decide, hV.xO, c_X0_promotes hV hX hI ht cf (hc t ht rfl cf) (fun e => ⟨_, rfl, ?_⟩) (fun o e x' w' h1 X1 K1 => ⟨_, rfl, ?_⟩)⟩
      · rw [e] at h0
        exact h0 hX (XK.rf x)
      · rw [e] at h
        exact h x' w' h1 X1 K1
    · rw [ask_bad ht hn (fun y => cf ((uKd_0 _).mp y)), if_neg (by decide)] at h0
      exact Or.inr ⟨x_cka hV hX hI ht hn (ci_nf hI ht hn cf), by decide, by decide, h0 hX (XK.rf x)⟩
  · rw [ask_out z, if_neg (by decide)] at h0
    exact h0 hX (XK.rf x)
end XS
