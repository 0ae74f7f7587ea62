/-! ===== the pool's operations, walked with the invariant ===== -/
set_option maxRecDepth 100000
set_option maxHeartbeats 400000
/-- what holds after an operation -/
def Nx (l : LT) (m : MT) (sc : Nat × (Nat → Int32)) (x : XT) (P' : PT) (B : Nat) (Q : aW → Prop) : Prop := ∀ l' x' a' D' w', L_ad l' = L_ad l → V (l', x', m, sc) w' → XP x' a' P' D' → GI P' D' B → XK x x' → Q w'
theorem GI.mono {P : PT} {D : DT} {B C : Nat} (h : GI P D B) (hBC : B ≤ C) : GI P D C := by
  obtain ⟨h1, h2, h3, h4, h5⟩ := h
  have h4' : 1 ≤ tmI P ∧ tmI P ≤ 100000 + B := h4
  exact ⟨h1, h2, h3, (by show 1 ≤ tmI P ∧ tmI P ≤ 100000 + C; omega), h5⟩
section XOp
variable {l : LT} {x : XT} {m : MT} {sc : Nat × (Nat → Int32)} {w : aW} {a : AT} {P : PT} {D : DT} {QR : Option aV → aW → Prop} {QX : String → aW → Prop} {B : Nat}
theorem u_write (hV : V (l, x, m, sc) w) (hX : XP x a P D) (hG : GI P D B) {i k sz : Int32} (h : Nx l m sc x (o_write P i k sz).2 B (fun w' => QR (some (vI (o_write P i k sz).1)) w')) : ct KX0_write 4 960 [vR (some (L_ad l 0)), vI i, vI k, vI sz] w QR QX :=
  c_X0_write hV hX hG.pi hG.sz hG.db hG.ld (fun x' w' v P' D' r h1 X1 K1 => by
    obtain ⟨rfl, rfl, G1⟩ := law_write hG r
    exact h l x' a D' w' rfl h1 X1 G1 K1)
theorem u_erase (hV : V (l, x, m, sc) w) (hX : XP x a P D) (hG : GI P D B) {i k : Int32} (h : Nx l m sc x (o_erase P i k).2 B (fun w' => QR (some (vI (o_erase P i k).1)) w')) : ct KX0_erase 4 960 [vR (some (L_ad l 0)), vI i, vI k] w QR QX :=
  c_X0_erase hV hX hG.pi hG.db hG.ld (fun x' w' v P' D' r h1 X1 K1 => by
    obtain ⟨rfl, rfl, G1⟩ := law_erase hG r
    exact h l x' a D' w' rfl h1 X1 G1 K1)
theorem u_remove (hV : V (l, x, m, sc) w) (hX : XP x a P D) (hG : GI P D B) {i : Int32} (h : Nx l m sc x (o_remove P i).2 B (fun w' => QR (some (vI (o_remove P i).1)) w')) : ct KX0_remove 0 0 [vR (some (L_ad l 0)), vI i] w QR QX :=
  c_X0_remove hV hX hG.pi hG.tq hG.db hG.lm (fun x' w' v P' D' r h1 X1 K1 => by
    obtain ⟨rfl, rfl, G1⟩ := law_remove hG r
    exact h l x' a D' w' rfl h1 X1 G1 K1)
theorem u_rollback (hV : V (l, x, m, sc) w) (hX : XP x a P D) (hG : GI P D B) {i : Int32} (h : Nx l m sc x (o_rollback P i).2 B (fun w' => QR (some (vI (o_rollback P i).1)) w')) : ct KX0_rollback 4 960 [vR (some (L_ad l 0)), vI i] w QR QX :=
  c_X0_rollback hV hX hG.pi (fun x' w' v P' D' r h1 X1 K1 => by
    obtain ⟨rfl, rfl, G1⟩ := law_rollback hG r
    exact h l x' a D' w' rfl h1 X1 G1 K1)
theorem u_promote (hV : V (l, x, m, sc) w) (hX : XP x a P D) (hG : GI P D B) {i : Int32} (h : Nx l m sc x (o_promote P (chl P i.toNatClampNeg) i).2 B (fun w' => QR (some (vI (o_promote P (chl P i.toNatClampNeg) i).1)) w')) : ct KX0_promote 4 960 [vR (some (L_ad l 0)), vI i] w QR QX :=
  c_X0_promote hV hX hG.pi (L := chl P i.toNatClampNeg) (fun t ht e hk => by
    subst e
    rw [nI_clamp (by omega)]
    exact hG.ch ht (Or.inl hk)) (fun x' w' h1 X1 K1 => h l x' a D w' rfl h1 X1 (law_promote hG) K1)
theorem u_tag (hV : V (l, x, m, sc) w) (hX : XP x a P D) (hG : GI P D B) {i v : Int32} (h : Nx l m sc x (o_tag P i v).2 B (fun w' => QR (some (vI (o_tag P i v).1)) w')) : ct KX0_tag 4 960 [vR (some (L_ad l 0)), vI i, vI v] w QR QX :=
  c_X0_tag hV hX hG.pi (fun x' w' h1 X1 K1 => h l x' a D w' rfl h1 X1 (law_tag hG) K1)
theorem u_tick (hV : V (l, x, m, sc) w) (hX : XP x a P D) (hG : GI P D B) (hB : B ≤ 1000000) (h : Nx l m sc x (o_tick P).2 B (fun w' => QR (some (vI (o_tick P).1)) w')) : ct KX0_tick 0 0 [vR (some (L_ad l 0))] w QR QX :=
  c_X0_tick hV hX (fun x' w' h1 X1 K1 => h l x' a D w' rfl h1 X1 (law_tick hG hB) K1)
theorem u_files (hV : V (l, x, m, sc) w) (hX : XP x a P D) (hG : GI P D B) {q : Int32} (h : Nx l m sc x (o_files P q).2 B (fun w' => QR (some (vI (o_files P q).1)) w')) : ct KX0_files 3 31 [vR (some (L_ad l 0)), vI q] w QR QX :=
  c_X0_files hV hX hG.pi (fun e => by
    have := h l x a D w rfl hV
    rw [e] at this
    exact this hX hG (XK.rf x)) (fun hT e l' x' a' w' el h1 X1 K1 => by
    unfold Nx at h
    rw [e] at h
    exact h l' x' a' _ w' el h1 X1 (law_files hG hT) K1)
theorem u_fork (hV : V (l, x, m, sc) w) (hX : XP x a P D) (hG : GI P D B) {i : Int32} (h : Nx l m sc x (o_fork P i).2 B (fun w' => QR (some (vI (o_fork P i).1)) w')) : ct KX0_fork 4 960 [vR (some (L_ad l 0)), vI i] w QR QX :=
  c_X0_fork hV hX hG.pi (fun e => by
    have := h l x a D w rfl hV
    rw [e] at this
    exact this hX hG (XK.rf x)) (fun s hs _ hk hT e l' x' a' w' el h1 X1 K1 => by
    unfold Nx at h
    rw [e] at h
    exact h l' x' a' _ w' el h1 X1 (law_fork hG hs hk hT) K1)
theorem u_mark (hV : V (l, x, m, sc) w) (hX : XP x a P D) (hG : GI P D B) {i : Int32} (h : Nx l m sc x (o_mark P i).2 B (fun w' => QR (some (vI (o_mark P i).1)) w')) : ct KX0_mark 4 960 [vR (some (L_ad l 0)), vI i] w QR QX :=
  c_X0_mark hV hX hG.pi (fun w' h1 e => by
    have := h l x a D w' rfl h1
    rw [e] at this
    exact this hX hG (XK.rf x)) (fun s hs _ hk hT e l' x' a' w' el h1 X1 K1 => by
    unfold Nx at h
    rw [e] at h
    exact h l' x' a' _ w' el h1 X1 (law_mark hG hT) K1)
theorem u_snap (hV : V (l, x, m, sc) w) (hX : XP x a P D) (hG : GI P D B) (hB : B ≤ 1000000) {i tg : Int32} (h : Nx l m sc x (o_snap P i tg).2 (B + 1) (fun w' => QR (some (vI (o_snap P i tg).1)) w')) : ct KX0_snap 4 960 [vR (some (L_ad l 0)), vI i, vI tg] w QR QX :=
  c_X0_snap hV hX hG.pi (fun e => by
    have := h l x a D w rfl hV
    rw [e] at this
    exact this hX (hG.mono (Nat.le_succ B)) (XK.rf x)) (fun f hf _ hk ht hT e l' x' a' w' el h1 X1 K1 => by
    unfold Nx at h
    rw [e] at h
    refine h l' x' a' _ w' el h1 X1 (law_snap hG hB hf hk ?_ hT) K1
    obtain ⟨k, hk2, rfl⟩ := inI_n (H := 1) ht rfl rfl (by decide)
    have : k = 0 ∨ k = 1 := by omega
    rcases this with rfl | rfl
    · exact Or.inl rfl
    · exact Or.inr rfl)
end XOp
