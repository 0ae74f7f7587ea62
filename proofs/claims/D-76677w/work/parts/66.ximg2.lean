/-! ===== the pool: back to the image ===== -/
set_option maxRecDepth 100000
set_option maxHeartbeats 400000
section XB4
variable {l : LT} {x : XT} {m : MT} {sc : Nat × (Nat → Int32)} {w : aW} {a : AT} {P : PT} {D : DT} {QR : Option aV → aW → Prop} {QX : String → aW → Prop} {rc rs : Nat}
theorem c_X0_back (hV : V (l, x, m, sc) w) (hR : ¬ X_hasImage x = 0 → KR (X_kept x) x a P D ∧ PI P) (h0 : X_hasImage x = 0 → QR (some (vI (-3))) w) (h : ¬ X_hasImage x = 0 → ∀ x' w', V (l, x', m, sc) w' → XP x' a P D → XI x x' → X_rows x' = X_rows x → X_W x' = X_W x → QR (some (vI (nI (nTh P)))) w') : ct KX0_back 0 0 [vR (some (L_ad l 0))] w QR QX := by
  refine st_X0_back (sg_X0_back_0 ⟨_, hV.xf_hasImage, fun c => ⟨_, hV.xf8, hV.xO, ?_⟩, h0⟩)
  obtain ⟨R, hI⟩ := hR c
  exact c_X0_laysBack (d := 100) hV hI (Or.inl rfl) R (fun x1 w1 h1 X1 I1 r1 r2 => ⟨rfl, h1.xO, c_X0_thingMany h1 X1 hI ⟨_, rfl, h c x1 w1 h1 X1 I1 r1 r2⟩⟩)
end XB4
