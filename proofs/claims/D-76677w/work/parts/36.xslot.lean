/-! ===== the pool's changes: slots written, erased; new things ===== -/
set_option maxRecDepth 100000
/-- what leaves a slot -/
def lvR (P : PT) (D : DT) (t k : Nat) (P' : PT) (D' : DT) : Prop := (P_slot P t k = -1 ∧ P' = erP P t k ∧ D' = D) ∨ (∃ b : Nat, b < 96 ∧ P_slot P t k = nI b ∧ ((¬ P_birth P b ≤ pm P t ∧ P' = fbP (erP P t k) b ∧ D' = D) ∨ (P_birth P b ≤ pm P t ∧ P' = erP P t k ∧ ∃ i, plc P (D t) b i ∧ D' = fset D t (inD (D t) i b))))
/-- room in the dead lists -/
def LD (P : PT) (D : DT) : Prop := ∀ t k b, t < 20 → fK (P_kind P t) → k < 12 → b < 96 → P_slot P t k = nI b → P_birth P b ≤ pm P t → (D t).length < 12
def wrR (P : PT) (D : DT) (t k : Nat) (sz : Int32) (v : Int32) (P' : PT) (D' : DT) : Prop := ((lB P = 96 ∨ ovr P t k sz) ∧ v = -4 ∧ P' = P ∧ D' = D) ∨ (¬ (lB P = 96 ∨ ovr P t k sz) ∧ v = nI (lB P) ∧ ∃ P1, lvR P D t k P1 D' ∧ P' = wrP P1 t k (lB P) sz)
def wR (P : PT) (D : DT) (i k sz v : Int32) (P' : PT) (D' : DT) : Prop := if inI k 0 11 ∧ inI sz 1 1000000000 then (if ask P i 0 = 0 then wrR P D i.toNatClampNeg k.toNatClampNeg sz v P' D' else v = ask P i 0 ∧ P' = P ∧ D' = D) else v = -2 ∧ P' = P ∧ D' = D
def eR (P : PT) (D : DT) (i k v : Int32) (P' : PT) (D' : DT) : Prop := if inI k 0 11 then (if ask P i 0 = 0 then v = P_slot P i.toNatClampNeg k.toNatClampNeg ∧ lvR P D i.toNatClampNeg k.toNatClampNeg P' D' else v = ask P i 0 ∧ P' = P ∧ D' = D) else v = -2 ∧ P' = P ∧ D' = D
theorem PI.er {P : PT} {t k : Nat} (h : PI P) : PI (erP P t k) := ⟨h.1, h.2.1, h.2.2.1, h.s.er⟩
theorem nNI {k : Nat} (h : k < 2 ^ 31) : (nI k).toNatClampNeg = k := nI_clamp h
section XW
variable {l : LT} {x : XT} {m : MT} {sc : Nat × (Nat → Int32)} {w : aW} {a : AT} {P : PT} {D : DT} {t u : Nat} {QR : Option aV → aW → Prop} {QX : String → aW → Prop} {rc rs : Nat}
theorem c_X0_leaves (hV : V (l, x, m, sc) w) (hX : XP x a P D) (hI : PI P) (hB : DB P D) (hL : LD P D) (ht : t < 20) (hk : fK (P_kind P t)) {k : Nat} (hk2 : k < 12) (h : ∀ x' w' P' D', lvR P D t k P' D' → V (l, x', m, sc) w' → XP x' a P' D' → XK x x' → QR none w') : ct KX0_leaves 0 0 [vR (some (L_ad l 0)), vR (some (a.1 t)), vI (nI k)] w QR QX := by
  refine st_X0_leaves (sg_X0_leaves_0 ⟨_, rfl, _, x_sa hV hX ht (cI_f hk), _, x_slot hV hX ht (Or.inl hk) hk2, _, x_sa hV hX ht (cI_f hk), w_slot hV hX ht (Or.inl hk) hk2 (fun x1 w1 h1 X1 K1 => ⟨fun c => ?_, fun c => h x1 w1 _ D (Or.inl ⟨c, rfl, rfl⟩) h1 X1 K1⟩)⟩)
  rcases hI.s t k ht hk2 with z | ⟨b, hb, z⟩
  · exact absurd z c
  · rw [z]
    have I1 : PI (erP P t k) := hI.er
    refine ⟨_, h1.xf1, _, x_birth h1 X1 hb, x_ck h1 X1 ht (cI_f hk), c_X4_prevMade h1 X1 I1 ht (Or.inl hk) ⟨_, rfl, fun c2 => ⟨h1.xO, ?_⟩, fun c2 => ⟨h1.xO, ?_⟩⟩⟩
    · have c3 : P_birth P b ≤ pm P t := c2
      refine c_X0_dies h1 X1 hB ht (Or.inl hk) (hL t k b ht hk hk2 hb z c3) hb (fun x2 w2 i hp h2 X2 K2 => ⟨rfl, h x2 w2 _ _ (Or.inr ⟨b, hb, z, Or.inr ⟨c3, rfl, i, hp, rfl⟩⟩) h2 X2 (K1.tr K2)⟩)
    · have c3 : ¬ P_birth P b ≤ pm P t := c2
      exact c_X0_frees h1 X1 hb (fun x2 w2 h2 X2 K2 _ => ⟨rfl, h x2 w2 _ _ (Or.inr ⟨b, hb, z, Or.inl ⟨c3, rfl, rfl⟩⟩) h2 X2 (K1.tr K2)⟩)
theorem lvR.kd {k : Nat} {P' : PT} {D' : DT} (h : lvR P D t k P' D') : P_kind P' = P_kind P ∧ P_time P' = P_time P := by
  rcases h with ⟨-, h, -⟩ | ⟨b, -, -, ⟨-, h, -⟩ | ⟨-, h, -⟩⟩ <;> (rw [h]; exact ⟨rfl, rfl⟩)
theorem c_X0_spaceOf_none (h : QX "java/lang/NullPointerException" w) : ct KX0_spaceOf 1 8 [vR (some (L_ad l 0)), vR none] w QR QX :=
  st_X0_spaceOf (sg_X0_spaceOf_0 (sg_X0_spaceOf_5 ⟨fun z => absurd z (by decide), fun _ => ⟨fun _ => ⟨Nat.le_refl _, Nat.le_refl _, h⟩, fun q e => (by cases e)⟩⟩))
theorem i64_com (a b c : Int64) : (a + b) - c = (a - c) + b := by
  rw [Int64.sub_eq_add_neg, Int64.sub_eq_add_neg, Int64.add_assoc, Int64.add_comm b, ← Int64.add_assoc]
theorem c_X0_writes (hV : V (l, x, m, sc) w) (hX : XP x a P D) (hI : PI P) (hZ : SZ P) (hB : DB P D) (hL : LD P D) (ht : t < 20) (hk : fK (P_kind P t)) {k : Nat} (hk2 : k < 12) {sz : Int32} (h : ∀ x' w' v P' D', wrR P D t k sz v P' D' → V (l, x', m, sc) w' → XP x' a P' D' → XK x x' → QR (some (vI v)) w') : ct KX0_writes 1 8 [vR (some (L_ad l 0)), vR (some (a.1 t)), vI (nI k), vI sz] w QR QX := by
  have hk' : hK (P_kind P t) := Or.inl hk
  have hbl : (if lB P = 96 then (-1 : Int32) else nI (lB P)) = -1 ↔ lB P = 96 := by
    by_cases c : lB P = 96
    · rw [if_pos c]
      exact ⟨fun _ => c, fun _ => rfl⟩
    · rw [if_neg c]
      exact ⟨fun e => absurd e (m1_ne _ (by have := lB_le P; omega)), fun e => absurd e c⟩
  have full : lB P = 96 ∨ ovr P t k sz → QR (some (vI (-4))) w := fun c => h x w _ _ _ (Or.inl ⟨c, rfl, rfl, rfl⟩) hV hX (XK.rf x)
  have wr : ¬ lB P = 96 → ¬ ovr P t k sz → isO w (L_ad l 0) 0 ∧ ct (KX0_leaves) 0 0 [vR (some (L_ad l 0)), vR (some (a.1 t)), vI (nI k)] w (fun v64 w64 => v64 = none ∧ ∃ x68 : Nat, gf w64 (L_ad l 0) [0] 0 (vR (some x68)) ∧ pI w64 x68 (if lB P = 96 then (-1 : Int32) else nI (lB P)) sz (fun w74 => ∃ x76 : Nat, gf w74 (L_ad l 0) [0] 1 (vR (some x76)) ∧ ∃ x82 : Int32, gf w74 (L_ad l 0) [0] 2 (vI x82) ∧ pI w74 x76 (if lB P = 96 then (-1 : Int32) else nI (lB P)) x82 (fun w85 => ∃ x87 : Nat, gf w85 (a.1 t) [4, 5] 1 (vR (some x87)) ∧ pI w85 x87 (nI k) (if lB P = 96 then (-1 : Int32) else nI (lB P)) (fun w93 => QR (some (vI (if lB P = 96 then (-1 : Int32) else nI (lB P)))) w93)))) (fun E64 w64 => False) := by
    intro c1 c2
    have hb : lB P < 96 := by have := lB_le P; omega
    rw [if_neg c1]
    refine ⟨hV.xO, c_X0_leaves hV hX hI hB hL ht hk hk2 (fun x1 w1 P1 D1 R1 h1 X1 K1 => ⟨rfl, _, h1.xf0, w_size h1 X1 hb (fun x2 w2 h2 X2 K2 => ⟨_, h2.xf1, _, x_time h2 X2, w_birth h2 X2 hb (fun x3 w3 h3 X3 K3 => ?_)⟩)⟩)⟩
    have e1 : P_kind P1 t = P_kind P t := by rw [R1.kd.1]
    have hk3 : fK (P_kind P1 t) := by rw [e1]; exact hk
    exact ⟨_, x_sa h3 X3 ht (cI_f hk3), w_slot h3 X3 ht (Or.inl hk3) hk2 (fun x4 w4 h4 X4 K4 => h x4 w4 _ _ D1 (Or.inr ⟨fun z => z.elim c1 c2, rfl, P1, R1, rfl⟩) h4 X4 (((K1.tr K2).tr K3).tr K4))⟩
  have may : ∀ v : Int64, v = (spS P t - (szI P (P_slot P t k)).toInt64) + sz.toInt64 → ((if lB P = 96 then (-1 : Int32) else nI (lB P)) = (-1) → QR (some (vI (-4))) w) ∧ (¬ (if lB P = 96 then (-1 : Int32) else nI (lB P)) = (-1) → ((isO w (a.1 t) 4 ∧ ct (KX5_mayHave) 0 0 [vR (some (a.1 t)), vL v] w (fun v52 w52 => ∃ x52 : Int32, v52 = some (vI x52) ∧ (¬ x52 = 0 → isO w52 (L_ad l 0) 0 ∧ ct (KX0_leaves) 0 0 [vR (some (L_ad l 0)), vR (some (a.1 t)), vI (nI k)] w52 (fun v64 w64 => v64 = none ∧ ∃ x68 : Nat, gf w64 (L_ad l 0) [0] 0 (vR (some x68)) ∧ pI w64 x68 (if lB P = 96 then (-1 : Int32) else nI (lB P)) sz (fun w74 => ∃ x76 : Nat, gf w74 (L_ad l 0) [0] 1 (vR (some x76)) ∧ ∃ x82 : Int32, gf w74 (L_ad l 0) [0] 2 (vI x82) ∧ pI w74 x76 (if lB P = 96 then (-1 : Int32) else nI (lB P)) x82 (fun w85 => ∃ x87 : Nat, gf w85 (a.1 t) [4, 5] 1 (vR (some x87)) ∧ pI w85 x87 (nI k) (if lB P = 96 then (-1 : Int32) else nI (lB P)) (fun w93 => QR (some (vI (if lB P = 96 then (-1 : Int32) else nI (lB P)))) w93)))) (fun E64 w64 => False)) ∧ (x52 = 0 → QR (some (vI (-4))) w52)) (fun E52 w52 => False)) ∨ (isO w (a.1 t) 5 ∧ ct (KX6_mayHave) 0 0 [vR (some (a.1 t)), vL v] w (fun v52 w52 => ∃ x52 : Int32, v52 = some (vI x52) ∧ (¬ x52 = 0 → isO w52 (L_ad l 0) 0 ∧ ct (KX0_leaves) 0 0 [vR (some (L_ad l 0)), vR (some (a.1 t)), vI (nI k)] w52 (fun v64 w64 => v64 = none ∧ ∃ x68 : Nat, gf w64 (L_ad l 0) [0] 0 (vR (some x68)) ∧ pI w64 x68 (if lB P = 96 then (-1 : Int32) else nI (lB P)) sz (fun w74 => ∃ x76 : Nat, gf w74 (L_ad l 0) [0] 1 (vR (some x76)) ∧ ∃ x82 : Int32, gf w74 (L_ad l 0) [0] 2 (vI x82) ∧ pI w74 x76 (if lB P = 96 then (-1 : Int32) else nI (lB P)) x82 (fun w85 => ∃ x87 : Nat, gf w85 (a.1 t) [4, 5] 1 (vR (some x87)) ∧ pI w85 x87 (nI k) (if lB P = 96 then (-1 : Int32) else nI (lB P)) (fun w93 => QR (some (vI (if lB P = 96 then (-1 : Int32) else nI (lB P)))) w93)))) (fun E64 w64 => False)) ∧ (x52 = 0 → QR (some (vI (-4))) w52)) (fun E52 w52 => False)))) := by
    intro v hv
    refine ⟨fun c => full (Or.inl (hbl.mp c)), fun c => ?_⟩
    have c1 : ¬ lB P = 96 := fun z => c (hbl.mpr z)
    rcases id hk with z | z
    · exact Or.inl ⟨x_O hV hX ht hk' (by rw [z]; decide), c_X5_mayHave ⟨_, rfl, fun _ => wr c1 (fun y => by have := y.1; rw [z] at this; exact absurd this (by decide)), fun y => absurd y (by decide)⟩⟩
    · refine Or.inr ⟨x_O hV hX ht hk' (by rw [z]; decide), c_X6_mayHave hV hX ht z ⟨_, rfl, fun y => wr c1 (fun o => ?_), fun y => full (Or.inr ⟨z, ?_⟩)⟩⟩
      · have := bI_n0.mp y
        rw [hv] at this
        exact this o.2
      · have := bI_0.mp y
        rw [hv] at this
        exact Classical.byContradiction this
  refine st_X0_writes (sg_X0_writes_0 ⟨hV.xO, c_X0_leastBlock hV hX hZ ⟨_, rfl, Nat.le_refl _, Nat.le_refl _, hV.xO, c_X0_spaceOf hV hX hI.s ht hk' ⟨_, rfl, _, rfl, _, x_sa hV hX ht (cI_f hk), _, x_slot hV hX ht hk' hk2, fun c => ?_, fun c => ?_⟩⟩⟩)
  · rcases hI.s t k ht hk2 with z | ⟨b, hb, z⟩
    · exact absurd z c
    · refine ⟨_, hV.xf0, _, x_sa hV hX ht (cI_f hk), _, x_slot hV hX ht hk' hk2, _, by rw [z]; exact x_size hV hX hb, may _ ?_⟩
      rw [z]
      unfold szI
      rw [if_neg (m1_ne b (by omega)), nI_clamp (by omega)]
      exact i64_com _ _ _
  · refine may _ ?_
    rw [c]
    unfold szI
    rw [if_pos rfl]
    exact i64_com _ _ _
theorem c_X0_writes_none (hV : V (l, x, m, sc) w) (hX : XP x a P D) (hZ : SZ P) {k sz : Int32} (h : QX "java/lang/NullPointerException" w) : ct KX0_writes 1 8 [vR (some (L_ad l 0)), vR none, vI k, vI sz] w QR QX :=
  st_X0_writes (sg_X0_writes_0 ⟨hV.xO, c_X0_leastBlock hV hX hZ ⟨_, rfl, Nat.le_refl _, Nat.le_refl _, hV.xO, c_X0_spaceOf_none ⟨rfl, h⟩⟩⟩)
theorem c_X0_write (hV : V (l, x, m, sc) w) (hX : XP x a P D) (hI : PI P) (hZ : SZ P) (hB : DB P D) (hL : LD P D) {i k sz : Int32} (h : ∀ x' w' v P' D', wR P D i k sz v P' D' → V (l, x', m, sc) w' → XP x' a P' D' → XK x x' → QR (some (vI v)) w') : ct KX0_write 4 960 [vR (some (L_ad l 0)), vI i, vI k, vI sz] w QR QX := by
  have h0 : ∀ v, wR P D i k sz v P D → QR (some (vI v)) w := fun v r => h x w v P D r hV hX (XK.rf x)
  refine st_X0_write (sg_X0_write_0 (c_X0_inI 0 11 (by decide) (by decide) ⟨_, rfl, fun c => h0 _ ?_, fun c => c_X0_inI 1 1000000000 (by decide) (by decide) ⟨_, rfl, fun c2 => ⟨by decide, by decide, hV.xO, c_X0_thingAt hV hX hI (fun t ht e => ⟨_, rfl, fun z => ⟨by decide, by decide, hV.xO, ?_⟩, fun q z => ?_⟩) (fun z => ⟨rfl, h0 _ ?_⟩)⟩, fun c2 => h0 _ ?_⟩⟩))
  · unfold wR
    rw [if_neg (fun y => b2i_0.mp c y.1)]
    exact ⟨rfl, rfl, rfl⟩
  · subst e
    refine c_X0_writes_none hV hX hZ ⟨rfl, h0 _ ?_⟩
    unfold wR
    rw [if_pos ⟨b2i_n0.mp c, b2i_n0.mp c2⟩, ask_none ht (thO_none z), if_neg (by decide)]
    exact ⟨rfl, rfl, rfl⟩
  · subst e
    obtain ⟨hn, rfl⟩ := thO_some z
    obtain ⟨K, hK', rfl⟩ := inI_n (H := 11) (b2i_n0.mp c) rfl rfl (by decide)
    by_cases cf : fK (P_kind P t)
    · refine Or.inl ⟨x_ck hV hX ht (cI_f cf), by decide, by decide, hV.xO, c_X0_writes hV hX hI hZ hB hL ht cf (by omega) (fun x1 w1 v P1 D1 r h1 X1 K1 => ⟨_, rfl, h x1 w1 v P1 D1 ?_ h1 X1 K1⟩)⟩
      unfold wR
      rw [if_pos ⟨b2i_n0.mp c, b2i_n0.mp c2⟩, if_pos (ask_ok ht hn ((uKd_0 _).mpr cf)), nI_clamp (by omega), nI_clamp (by omega)]
      exact r
    · refine Or.inr ⟨x_cka hV hX hI ht hn (ci_nf hI ht hn cf), by decide, by decide, h0 _ ?_⟩
      unfold wR
      rw [if_pos ⟨b2i_n0.mp c, b2i_n0.mp c2⟩, ask_bad ht hn (fun y => cf ((uKd_0 _).mp y)), if_neg (by decide)]
      exact ⟨rfl, rfl, rfl⟩
  · unfold wR
    rw [if_pos ⟨b2i_n0.mp c, b2i_n0.mp c2⟩, ask_out z, if_neg (by decide)]
    exact ⟨rfl, rfl, rfl⟩
  · unfold wR
    rw [if_neg (fun y => b2i_0.mp c2 y.2)]
    exact ⟨rfl, rfl, rfl⟩
theorem c_X0_erase (hV : V (l, x, m, sc) w) (hX : XP x a P D) (hI : PI P) (hB : DB P D) (hL : LD P D) {i k : Int32} (h : ∀ x' w' v P' D', eR P D i k v P' D' → V (l, x', m, sc) w' → XP x' a P' D' → XK x x' → QR (some (vI v)) w') : ct KX0_erase 4 960 [vR (some (L_ad l 0)), vI i, vI k] w QR QX := by
  have h0 : ∀ v, eR P D i k v P D → QR (some (vI v)) w := fun v r => h x w v P D r hV hX (XK.rf x)
  refine st_X0_erase (sg_X0_erase_0 (c_X0_inI 0 11 (by decide) (by decide) ⟨_, rfl, fun c => ⟨by decide, by decide, hV.xO, c_X0_thingAt hV hX hI (fun t ht e => ⟨_, rfl, fun z => ⟨by decide, by decide, hV.xO, ?_⟩, fun q z => ?_⟩) (fun z => ⟨rfl, h0 _ ?_⟩)⟩, fun c => h0 _ ?_⟩))
  · subst e
    refine st_X0_erases (sg_X0_erases_0 ⟨fun _ => ⟨Nat.le_refl _, Nat.le_refl _, rfl, h0 _ ?_⟩, fun q y => (by cases y)⟩)
    unfold eR
    rw [if_pos (b2i_n0.mp c), ask_none ht (thO_none z), if_neg (by decide)]
    exact ⟨rfl, rfl, rfl⟩
  · subst e
    obtain ⟨hn, rfl⟩ := thO_some z
    obtain ⟨K, hK', rfl⟩ := inI_n (H := 11) (b2i_n0.mp c) rfl rfl (by decide)
    by_cases cf : fK (P_kind P t)
    · refine Or.inl ⟨x_ck hV hX ht (cI_f cf), by decide, by decide, hV.xO, st_X0_erases (sg_X0_erases_0 ⟨fun y => (by cases y), fun q y => ?_⟩)⟩
      cases y
      exact ⟨_, x_sa hV hX ht (cI_f cf), _, x_slot hV hX ht (Or.inl cf) (by omega), hV.xO, c_X0_leaves hV hX hI hB hL ht cf (by omega) (fun x1 w1 P1 D1 r h1 X1 K1 => ⟨rfl, _, rfl, h x1 w1 _ P1 D1 (by
        unfold eR
        rw [if_pos (b2i_n0.mp c), if_pos (ask_ok ht hn ((uKd_0 _).mpr cf)), nI_clamp (by omega), nI_clamp (by omega)]
        exact ⟨rfl, r⟩) h1 X1 K1⟩)⟩
    · refine Or.inr ⟨x_cka hV hX hI ht hn (ci_nf hI ht hn cf), by decide, by decide, h0 _ ?_⟩
      unfold eR
      rw [if_pos (b2i_n0.mp c), ask_bad ht hn (fun y => cf ((uKd_0 _).mp y)), if_neg (by decide)]
      exact ⟨rfl, rfl, rfl⟩
  · unfold eR
    rw [if_pos (b2i_n0.mp c), ask_out z, if_neg (by decide)]
    exact ⟨rfl, rfl, rfl⟩
  · unfold eR
    rw [if_neg (b2i_0.mp c)]
    exact ⟨rfl, rfl, rfl⟩
theorem c_X0_tick (hV : V (l, x, m, sc) w) (hX : XP x a P D) (h : ∀ x' w', V (l, x', m, sc) w' → XP x' a (o_tick P).2 D → XK x x' → QR (some (vI (o_tick P).1)) w') : ct KX0_tick 0 0 [vR (some (L_ad l 0))] w QR QX := by
  have h0 := h x w hV
  unfold o_tick at h h0
  refine st_X0_tick (sg_X0_tick_0 ⟨_, x_time hV hX, fun c => ⟨_, x_time hV hX, w_time hV hX (fun x1 w1 h1 X1 K1 => ⟨_, x_time h1 X1, ?_⟩)⟩, fun c => ?_⟩)
  · rw [if_pos c] at h
    exact h x1 w1 h1 X1 K1
  · rw [if_neg c] at h0
    exact h0 hX (XK.rf x)
theorem c_X0_tag (hV : V (l, x, m, sc) w) (hX : XP x a P D) (hI : PI P) {i v : Int32} (h : ∀ x' w', V (l, x', m, sc) w' → XP x' a (o_tag P i v).2 D → XK x x' → QR (some (vI (o_tag P i v).1)) w') : ct KX0_tag 4 960 [vR (some (L_ad l 0)), vI i, vI v] w QR QX := by
  have h0 := h x w hV
  unfold o_tag at h h0
  refine st_X0_tag (sg_X0_tag_0 (c_X0_inI 0 9 (by decide) (by decide) ⟨_, rfl, fun c => ⟨by decide, by decide, hV.xO, c_X0_thingAt hV hX hI (fun t ht e => ⟨_, rfl, fun z => ⟨by decide, by decide, ?_⟩, fun q z => ?_⟩) (fun z => ⟨rfl, ?_⟩)⟩, fun c => ?_⟩))
  · subst e
    rw [if_pos (b2i_n0.mp c), ask_none ht (thO_none z), if_neg (by decide)] at h0
    exact h0 hX (XK.rf x)
  · subst e
    obtain ⟨hn, rfl⟩ := thO_some z
    rw [if_pos (b2i_n0.mp c)] at h h0
    have u3 : uKd (P_kind P t) 3 ↔ P_kind P t = 3 := by
      constructor
      · rintro (y | ⟨-, y⟩ | ⟨-, y⟩)
        · exact y
        · exact absurd y (by decide)
        · exact absurd y (by decide)
      · exact Or.inl
    by_cases c3 : P_kind P t = 3
    · rw [if_pos (ask_ok ht hn (u3.mpr c3)), nI_clamp (by omega)] at h
      have hh : hK (P_kind P t) := Or.inr (Or.inr c3)
      exact Or.inl ⟨x_ck hV hX ht (cI_3 c3), x_O hV hX ht hh (by rw [c3]; decide), c_X8_tags hV hX ht c3 ⟨_, rfl, x_O hV hX ht hh (by rw [c3]; decide), st_X8_tagsAre (sg_X8_tagsAre_0 (w_tags hV hX ht c3 (cI_3 c3) (fun x1 w1 h1 X1 K1 => ⟨rfl, h x1 w1 h1 X1 K1⟩)))⟩⟩
    · rw [ask_bad ht hn (fun y => c3 (u3.mp y)), if_neg (by decide)] at h0
      refine Or.inr ⟨x_cka hV hX hI ht hn ?_, by decide, by decide, h0 hX (XK.rf x)⟩
      rcases hI.k ht with y | y | (y | y) | (y | y)
      · exact absurd y hn
      · rw [y]; decide
      · rw [y]; decide
      · rw [y]; decide
      · rw [y]; decide
      · exact absurd y c3
  · rw [if_pos (b2i_n0.mp c), ask_out z, if_neg (by decide)] at h0
    exact h0 hX (XK.rf x)
  · rw [if_neg (b2i_0.mp c)] at h0
    exact h0 hX (XK.rf x)
/-! new things -/
theorem lT_free (h : lT P < 20) : P_kind P (lT P) = -1 := (lst_spec (fun t => P_kind P t = -1) 20 0).2.2.2 (by unfold lT at h; omega)
theorem V.xadd (hV : V (l, x, m, sc) w) {q T : Nat} (hT : T < 20) {Q : aW → Prop} (K : ∀ w', V (l, X_things_ x (va_up (X_things x) T (some q)), m, sc) w' → Q w') : pR w (L_ad l 3) 2 (nI T) (some q) Q := by
  refine hV.xp_things (vp_in_nI hT (by decide)) (fun w' h' => K w' ?_)
  rw [nI_clamp (by omega)] at h'
  exact h'
theorem c_X0_takesPlace (hV : V (l, x, m, sc) w) (hX : XP x a P D) (hI : PI P) {q : Nat} {r : RT} (hr : X_H x q = some r) (hT : lT P < 20) (h : ∀ w', V (l, X_things_ (xh x q (R_number_ r (nI (lT P)))) (va_up (X_things x) (lT P) (some q)), m, sc) w' → QR (some (vI (nI (lT P)))) w') : ct KX0_takesPlace 0 0 [vR (some (L_ad l 0)), vR (some q)] w QR QX := by
  refine st_X0_takesPlace (sg_X0_takesPlace_0 ⟨hV.xO, c_X0_leastThing hV hX hI ⟨_, rfl, _, rfl, ?_⟩⟩)
  rw [if_neg (by omega)]
  refine hV.hpf_number hr (hV.hc4 hr) (fun w1 h1 => ⟨_, h1.xf4, ?_, h1.xadd hT (fun w2 h2 => h w2 h2)⟩)
  have h1' : V (l, xh x q (R_number_ r (nI (lT P))), m, sc) w1 := h1
  refine h1'.hck xh_h ?_
  have := hV.hc4 hr
  show R_ci r ∈ [4, 5, 6, 7, 8]
  rcases hV.hci hr with e | e | e | e <;> (rw [e]; decide)
theorem nwp_cm {T : Nat} {k mk : Int32} {M : List Nat} : NwP P (cmP P T k mk) D (fset D T M) T := ⟨rfl, rfl, rfl, rfl, fun u hu => ⟨fset_n hu, fset_n hu, fset_n hu, fset_n hu, fset_n hu, fset_n hu, fset_n hu, fset_n hu⟩⟩
theorem c_X0_files (hV : V (l, x, m, sc) w) (hX : XP x a P D) (hI : PI P) {q : Int32} (h0 : (o_files P q).2 = P → QR (some (vI (o_files P q).1)) w) (h : lT P < 20 → o_files P q = (nI (lT P), flP P (lT P) q) → ∀ l' x' a' w', L_ad l' = L_ad l → V (l', x', m, sc) w' → XP x' a' (flP P (lT P) q) (fset D (lT P) []) → XK x x' → QR (some (vI (nI (lT P)))) w') : ct KX0_files 3 31 [vR (some (L_ad l 0)), vI q] w QR QX := by
  unfold o_files at h0 h
  refine st_X0_files (sg_X0_files_0 (c_X0_inI (-1) 1000000000 (by decide) (by decide) ⟨_, rfl, fun c => ⟨hV.xO, c_X0_leastThing hV hX hI ⟨_, rfl, fun c2 => ⟨fun c3 => ?_, fun c3 => ?_⟩, fun c2 => ?_⟩⟩, fun c => ?_⟩))
  · have cT : ¬ lT P = 20 := fun z => c2 (if_pos z)
    have hT : lT P < 20 := by have := lT_le P; omega
    rw [if_pos (b2i_n0.mp c), if_neg cT] at h
    refine ⟨by decide, by decide, fun qa w1 hn hw => ?_⟩
    have hq := hV.nowh hn
    have hV1 : V (l, x, m, sc) w1 := by rw [hw]; exact hV.nw hq
    refine ⟨_, x_time hV1 hX, by decide, by decide, c_X6_init hV1 hq (by rw [hw]; exact aup_self _ _ _) (fun l' w2 r e2 h2 hnone hN => ⟨rfl, ?_⟩)⟩
    rw [← e2]
    have X2 : XP (xh x qa (R_qt_ r q)) a P D := hX.frH hnone
    refine ⟨h2.xO, c_X0_takesPlace h2 X2 hI xh_h hT (fun w3 h3 => ⟨_, rfl, ?_⟩)⟩
    rw [xh_xh] at h3
    obtain ⟨n1, n2, n3, n4, n5, n6, n7, n8⟩ := hN
    have hP : NwP P (flP P (lT P) q) D (fset D (lT P) []) (lT P) := ⟨rfl, rfl, rfl, rfl, fun u hu => ⟨fset_n hu, fset_n hu, fset_n hu, fset_n hu, (fset_n hu).trans (fset_n hu), fset_n hu, fset_n hu, fset_n hu⟩⟩
    have ek : P_kind (flP P (lT P) q) (lT P) = 1 := by
      show fset (P_kind P) (lT P) (if q = -1 then 0 else 1) (lT P) = 1
      rw [fset_s, if_neg c3]
    refine h hT rfl l' _ (nwA a (lT P) qa (R_sa r) (R_da r)) w3 e2 h3 (hX.new (r := R_number_ (R_qt_ r q) (nI (lT P))) hI hT (lT_free hT) hnone hP (Or.inl (Or.inr ek)) ?_) ((XK.frH hnone).tr ⟨⟨rfl, rfl, rfl, rfl, rfl, fun p s hs => ?_, fun _ _ h => h⟩, rfl⟩)
    · refine ⟨?_, ?_, (fset_s).symm, (fset_s).symm, ?_, rfl, ?_, fun hs => ?_, fun _ => ?_, fun hs => ?_, fun k hk => ?_, ?_, fun i hi => ?_⟩
      · rw [ek]; exact n1
      · exact n2.trans (fset_s).symm
      · rw [fset_s]; exact n3
      · rw [pO_m (show P_prev (flP P (lT P) q) (lT P) = -1 from fset_s)]; exact n5
      · rw [ek] at hs; exact absurd hs (by decide)
      · exact (fset_s).symm
      · rw [ek] at hs; exact absurd hs (by decide)
      · rw [show P_slot (flP P (lT P) q) (lT P) k = -1 from congrFun (fset_s (f := P_slot P)) k]; exact n8 k hk
      · rw [fset_s]; exact Nat.zero_le _
      · rw [fset_s] at hi; exact absurd hi (Nat.not_lt_zero _)
    · refine ⟨s, ?_, rfl, rfl, rfl, rfl, rfl, fun _ => rfl⟩
      exact hs
  · have cT : ¬ lT P = 20 := fun z => c2 (if_pos z)
    have hT : lT P < 20 := by have := lT_le P; omega
    rw [if_pos (b2i_n0.mp c), if_neg cT] at h
    refine ⟨by decide, by decide, fun qa w1 hn hw => ?_⟩
    have hq := hV.nowh hn
    have hV1 : V (l, x, m, sc) w1 := by rw [hw]; exact hV.nw hq
    refine ⟨_, x_time hV1 hX, by decide, by decide, c_X5_init hV1 hq (by rw [hw]; exact aup_self _ _ _) (fun l' w2 r e2 h2 hnone hN => ⟨rfl, ?_⟩)⟩
    rw [← e2]
    have X2 : XP (xh x qa r) a P D := hX.frH hnone
    refine ⟨h2.xO, c_X0_takesPlace h2 X2 hI xh_h hT (fun w3 h3 => ⟨_, rfl, ?_⟩)⟩
    rw [xh_xh] at h3
    obtain ⟨n1, n2, n3, n4, n5, n6, n7, n8⟩ := hN
    have hP : NwP P (flP P (lT P) q) D (fset D (lT P) []) (lT P) := ⟨rfl, rfl, rfl, rfl, fun u hu => ⟨fset_n hu, fset_n hu, fset_n hu, fset_n hu, (fset_n hu).trans (fset_n hu), fset_n hu, fset_n hu, fset_n hu⟩⟩
    have ek : P_kind (flP P (lT P) q) (lT P) = 0 := by
      show fset (P_kind P) (lT P) (if q = -1 then 0 else 1) (lT P) = 0
      rw [fset_s, if_pos c3]
    refine h hT rfl l' _ (nwA a (lT P) qa (R_sa r) (R_da r)) w3 e2 h3 (hX.new (r := R_number_ r (nI (lT P))) hI hT (lT_free hT) hnone hP (Or.inl (Or.inl ek)) ?_) ((XK.frH hnone).tr ⟨⟨rfl, rfl, rfl, rfl, rfl, fun p s hs => ?_, fun _ _ h => h⟩, rfl⟩)
    · refine ⟨?_, ?_, (fset_s).symm, (fset_s).symm, ?_, rfl, ?_, fun hs => ?_, fun hs => ?_, fun hs => ?_, fun k hk => ?_, ?_, fun i hi => ?_⟩
      · rw [ek]; exact n1
      · exact n2.trans (fset_s).symm
      · rw [fset_s]; exact n3
      · rw [pO_m (show P_prev (flP P (lT P) q) (lT P) = -1 from fset_s)]; exact n5
      · rw [ek] at hs; exact absurd hs (by decide)
      · rw [ek] at hs; exact absurd hs (by decide)
      · rw [ek] at hs; exact absurd hs (by decide)
      · rw [show P_slot (flP P (lT P) q) (lT P) k = -1 from congrFun (fset_s (f := P_slot P)) k]; exact n8 k hk
      · rw [fset_s]; exact Nat.zero_le _
      · rw [fset_s] at hi; exact absurd hi (Nat.not_lt_zero _)
    · exact ⟨s, hs, rfl, rfl, rfl, rfl, rfl, fun _ => rfl⟩
  · have cT : lT P = 20 := by
      refine Classical.byContradiction (fun z => ?_)
      rw [if_neg z] at c2
      exact m1_ne _ (by have := lT_le P; omega) c2
    rw [if_pos (b2i_n0.mp c), if_pos cT] at h0
    exact h0 rfl
  · rw [if_neg (b2i_0.mp c)] at h0
    exact h0 rfl
end XW
