/-! ===== the pool: a drawn act ===== -/
set_option maxRecDepth 100000
set_option maxHeartbeats 400000
section XAc
variable {l : LT} {x : XT} {m : MT} {sc : Nat × (Nat → Int32)} {w : aW} {a : AT} {P : PT} {D : DT} {QR : Option aV → aW → Prop} {QX : String → aW → Prop} {B : Nat}
theorem Nx.d {R P' : PT} (h : Nx l m sc x R (B + 1) (fun w' => ∀ v : Int32, QR (some (vI v)) w')) (e : R = P') (v : Int32) : Nx l m sc x P' B (fun w' => ∃ y : Int32, some (vI v) = some (vI y) ∧ QR (some (vI y)) w') := by
  subst e
  exact fun l' x' a' D' w' el h1 X1 G1 K1 => ⟨v, rfl, h l' x' a' D' w' el h1 X1 (G1.mono (Nat.le_succ B)) K1 v⟩
theorem Nx.d1 {R P' : PT} (h : Nx l m sc x R (B + 1) (fun w' => ∀ v : Int32, QR (some (vI v)) w')) (e : R = P') (v : Int32) : Nx l m sc x P' (B + 1) (fun w' => ∃ y : Int32, some (vI v) = some (vI y) ∧ QR (some (vI y)) w') := by
  subst e
  exact fun l' x' a' D' w' el h1 X1 G1 K1 => ⟨v, rfl, h l' x' a' D' w' el h1 X1 G1 K1 v⟩
theorem c_X0_acts (hV : V (l, x, m, sc) w) (hX : XP x a P D) (hG : GI P D B) (hB : B ≤ 1000000) {i y z : Int32} (h : Nx l m sc x (o_draws P i y z) (B + 1) (fun w' => ∀ v : Int32, QR (some (vI v)) w')) : ct KX0_acts 4 960 [vR (some (L_ad l 0)), vI i, vI y, vI z] w QR QX := by
  have i19 : (19 : Int32).toInt = 19 := by decide
  have i20 : (20 : Int32).toInt = 20 := by decide
  have i21 : (21 : Int32).toInt = 21 := by decide
  have hf : 8 ≤ i → 11 ≤ i → 15 ≤ i → 19 ≤ i → ¬ 21 ≤ i → o_draws P i y z = (o_fork P (rm y 20)).2 := by
    intro c1 c2 c3 c4 c5
    unfold o_draws
    rw [if_neg (fun q => q c1), if_neg (fun q => q c2), if_neg (fun q => q c3), if_neg (fun q => q c4), if_pos c5]
  refine st_X0_acts (sg_X0_acts_0 ⟨fun c1 => ⟨fun c2 => ⟨fun c3 => ⟨fun c4 => ⟨fun c5 => ⟨by decide, by decide, hV.xO, u_fork (i := rm y 20) hV hX hG (h.d (hf c1 c2 c3 c4 ?_) _)⟩, fun c5 => ⟨by decide, by decide, hV.xO, u_fork (i := rm y 20) hV hX hG (h.d (hf c1 c2 c3 c4 ?_) _)⟩, fun c5 => ⟨by decide, by decide, hV.xO, u_promote (i := rm y 20) hV hX hG (h.d ?_ _)⟩, fun c5 => ⟨by decide, by decide, hV.xO, u_rollback (i := rm y 20) hV hX hG (h.d ?_ _)⟩, fun c5 c6 c7 c8 => ⟨by decide, by decide, hV.xO, u_files hV hX hG (h.d ?_ _)⟩⟩, fun c4 => ⟨hV.xO, u_remove (i := rm y 20) hV hX hG (h.d ?_ _)⟩⟩, fun c3 => ⟨by decide, by decide, hV.xO, u_snap (i := rm y 20) hV hX hG hB (h.d1 ?_ _)⟩⟩, fun c2 => ⟨by decide, by decide, hV.xO, u_erase (i := rm y 20) (k := rm z 12) hV hX hG (h.d ?_ _)⟩⟩, fun c1 => ⟨by decide, by decide, hV.xO, u_write (i := rm y 20) (k := rm z 12) hV hX hG (h.d ?_ _)⟩⟩)
  · rw [c5]; decide
  · rw [c5]; decide
  · unfold o_draws
    rw [if_neg (fun q => q c1), if_neg (fun q => q c2), if_neg (fun q => q c3), if_neg (fun q => q c4), if_neg (fun q => q (by rw [c5]; decide)), if_pos c5]
  · unfold o_draws
    rw [if_neg (fun q => q c1), if_neg (fun q => q c2), if_neg (fun q => q c3), if_neg (fun q => q c4), if_neg (fun q => q (by rw [c5]; decide)), if_neg (by rw [c5]; decide), if_pos c5]
  · have c9 : (21 : Int32) ≤ i := by
      rw [le_i] at c4 ⊢
      have n1 : i.toInt ≠ 19 := fun q => c5 (Int32.toInt_inj.mp (q.trans i19.symm))
      have n2 : i.toInt ≠ 20 := fun q => c6 (Int32.toInt_inj.mp (q.trans i20.symm))
      omega
    unfold o_draws
    rw [if_neg (fun q => q c1), if_neg (fun q => q c2), if_neg (fun q => q c3), if_neg (fun q => q c4), if_neg (fun q => q c9), if_neg c7, if_neg c8]
  · unfold o_draws
    rw [if_neg (fun q => q c1), if_neg (fun q => q c2), if_neg (fun q => q c3), if_pos c4]
  · unfold o_draws
    rw [if_neg (fun q => q c1), if_neg (fun q => q c2), if_pos c3]
  · unfold o_draws
    rw [if_neg (fun q => q c1), if_pos c2]
  · unfold o_draws
    rw [if_pos c1]
end XAc
