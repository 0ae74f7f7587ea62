/-! ===== the pool: an image ===== -/
set_option maxRecDepth 100000
set_option maxHeartbeats 400000
section XIm
variable {l : LT} {x : XT} {m : MT} {sc : Nat × (Nat → Int32)} {w : aW} {a : AT} {P : PT} {D : DT} {d : Nat} {QR : Option aV → aW → Prop} {QX : String → aW → Prop} {rc rs : Nat}
theorem IM.cg {x x' : XT} {t : Nat} (h : IM x a P t) (e : X_H x' = X_H x) : IM x' a P t := by
  obtain ⟨r, h1, h2⟩ := h
  exact ⟨r, (congrFun e _).trans h1, h2⟩
theorem KR.cg {c : CT} {x x' : XT} (h : KR c x a P D) (e : X_H x' = X_H x) (e2 : X_B x' = X_B x) : KR c x' a P D := by
  obtain ⟨h1, h2, h3, h4, h5, h6, h7⟩ := h
  exact ⟨h1, h2, h3, h4, h5, fun t ht z => ⟨(h6 t ht z).1, (congrFun e2 _).trans (h6 t ht z).2⟩, fun t ht z => ⟨(h7 t ht z).1, (h7 t ht z).2.1.cg e, (h7 t ht z).2.2⟩⟩
theorem c_X0_image (hV : V (l, x, m, sc) w) (hX : XP x a P D) (hI : PI P) (h : ∀ x' w', V (l, x', m, sc) w' → XP x' a P D → KR (X_kept x') x' a P D → X_hasImage x' = 1 → X_rows x' = X_rows x → X_W x' = X_W x → QR (some (vI (nI (nTh P)))) w') : ct KX0_image 0 0 [vR (some (L_ad l 0))] w QR QX := by
  refine st_X0_image (sg_X0_image_0 ⟨_, hV.xf8, hV.xO, c_X0_keeps (d := 100) hV hX hI (Or.inl rfl) (fun x1 w1 h1 F1 R1 => ⟨rfl, h1.xpf_hasImage (fun w2 h2 => ?_)⟩)⟩)
  have X2 : XP (X_hasImage_ x1 1) a P D := F1.1 a P D hX
  have R2 : KR (X_kept (X_hasImage_ x1 1)) (X_hasImage_ x1 1) a P D := R1.cg F1.2.1 F1.2.2.1
  exact ⟨h2.xO, c_X0_thingMany h2 X2 hI ⟨_, rfl, h _ w2 h2 X2 R2 rfl F1.2.2.2.1 F1.2.2.2.2.1⟩⟩
end XIm
