/-! ===== THE WP LAYER 3: fields, arrays, new, casts ===== -/
/-- the field of the pool's entry idx of own's file is number k of objects of kind ci -/
def aFld (own : String) (idx ci k : Nat) : Prop := ∃ (r : vw_C) (ref : String), acl[ci]? = some r ∧ k < r.2.2 ∧ (∀ w ∈ u_ws r.1 r.2.1 r.2.2, w ∈ lw_all) ∧ (Cond.fieldLink own idx ref (r.2.1 k).2.1 (r.2.1 k).2.2.1) ∈ lw_all ∧ (ref = (r.2.1 k).1 ∨ Cond.sameField ref (r.2.1 k).1 (r.2.1 k).2.1 (r.2.1 k).2.2.1 ∈ lw_all)
/-- .. a nest mate's -/
def aFldN (own : String) (idx ci k : Nat) : Prop := ∃ (r : vw_C) (ref host : String), acl[ci]? = some r ∧ k < r.2.2 ∧ (∀ w ∈ u_ws r.1 r.2.1 r.2.2, w ∈ lw_all) ∧ (Cond.fieldLinkNest own idx ref (r.2.1 k).2.1 (r.2.1 k).2.2.1 host) ∈ lw_tbl ∧ ref = (r.2.1 k).1
/-- a kind's fields' types -/
def aTy (ci : Nat) (ty0 : Nat → FieldType) : Prop := ∃ r : vw_C, acl[ci]? = some r ∧ (∀ k, k < r.2.2 → parseFieldDescriptor (r.2.1 k).2.2.1 = some (ty0 k)) ∧ (∀ a, a < r.2.2 → ∀ b, b < r.2.2 → a ≠ b → (r.2.1 a).2.1 ≠ (r.2.1 b).2.1)
def aFin (own : String) (nm : String) (ci k : Nat) : Prop := ∃ r : vw_C, acl[ci]? = some r ∧ ((r.2.1 k).2.2.2 = false ∨ ((r.2.1 k).2.2.2 = true ∧ nm = "<init>" ∧ (r.2.1 k).1 = own))
theorem a_same {args : Array Value} {s : State} (hts : ∀ w ∈ lw_all, w.before args s = true) {ref owner nm d : String} (h : ref = owner ∨ Cond.sameField ref owner nm d ∈ lw_all) : ∀ x, s.fieldFound? owner nm d = some x → s.fieldFound? ref nm d = some x := by
  intro x hx
  rcases h with rfl | h
  · exact hx
  · exact u_same (hts _ h) x hx
/-- the name of a cell's class -/
def aName (c : aCell) : String := match c with
  | .inl x => "[" ++ (aty x.1).toString
  | .inr o => match acl[o.1]? with
    | some r => r.1
    | none => ""
/-- is of that class, or may be cast to it -/
def aCast (C nm : String) : Prop := C = nm ∨ Cond.castable C nm ∈ lw_tbl
section WP3
variable {K : aK} {rc rs : Nat} {QR : Option aV → aW → Prop} {QX : String → aW → Prop} {pc : Nat} {ls : List (Nat × aV)} {st : List aV} {w : aW}
theorem vp_cell_cls (cA : ClassId) (x : vp_A) : (vp_cell cA x).cls = cA ∧ (vp_cell cA x).vm = .none := by
  obtain ⟨n, f | f | f | f | f⟩ := x <;> exact ⟨rfl, rfl⟩
theorem aty_name {G : aG} {s : State} (hK : va_K G.1 acl (atys G) s) {t : Nat} (ht : t < 7) : s.vm.findClass ("[" ++ (aty t).toString) = some (G.2 t) := by
  have h := (hK.2 t _ (atys_at G ht)).2
  match t, ht, h with
  | 0, _, h => exact h
  | 1, _, h => exact h
  | 2, _, h => obtain ⟨_, _, _, _, _, h⟩ := h; exact h
  | 3, _, h => obtain ⟨_, _, _, _, _, h⟩ := h; exact h
  | 4, _, h => obtain ⟨_, _, _, _, _, h⟩ := h; exact h
  | 5, _, h => obtain ⟨_, _, _, _, _, h⟩ := h; exact h
  | 6, _, h => exact h
def aKind (c : aCell) : Prop := match c with
  | .inl x => x.1 < 7
  | .inr o => o.1 < 9
theorem acl_at {ci : Nat} (h : ci < 9) : ∃ r, acl[ci]? = some r := ⟨acl[ci]'(by simpa [acl] using h), List.getElem?_eq_getElem _⟩
/-- what a cast or a call asks of its object -/
theorem a_recv {G : aG} {s : State} {H : Heap} {ws : va_W} (hK : va_K G.1 acl (atys G) s) (hP : va_P G.1 acl ws H) (hL : LW G w ws) {a : Nat} {c : aCell} (hw : w a = some c) (hk : aKind c) : ∃ cell : Cell, H[a]? = some cell ∧ cell.vm.isStatics = false ∧ s.vm.findClass (aName c) = some cell.cls := by
  obtain ⟨q0, hq⟩ := hL a c hw
  rcases c with x | o
  · have h1 := hP q0 _ hq
    have h2 : H[a]? = some (vp_cell (G.2 x.1) x.2) := h1
    refine ⟨_, h2, ?_, ?_⟩
    · rw [(vp_cell_cls _ _).2]; rfl
    · rw [(vp_cell_cls _ _).1]; exact aty_name hK hk
  · obtain ⟨r, hr⟩ := acl_at (ci := o.1) hk
    have h1 := va_recv hK hP (q := r) hr hq
    have e : aName (.inr o) = r.1 := by
      show (match acl[o.1]? with | some r => r.1 | none => "") = r.1
      rw [hr]
    rw [e]
    exact h1
theorem wp_getf {n idx a ci k : Nat} {fs : List aV} {v : aV} (hd : decode (kC K) pc = .ok (.getfield idx, 3)) (hn : pc + 3 = n) (hf : aFld (kY K).cls idx ci k) (hw : w a = some (.inr (ci, fs))) (hv : fs[k]? = some v) (k : wp K rc rs QR QX n ls (v :: st) w) : wp K rc rs QR QX pc ls (vR (some a) :: st) w := by
  subst hn
  obtain ⟨r, ref, h1, h2, h3, h4, h5⟩ := hf
  intro p l e s m args below meth c G ws0 sz mc ms C H locs ws lsA cells slots hL hP hD hS hl hc hs
  obtain ⟨q0, hq⟩ := hL a _ hw
  exact va_get (D := G.1) (cl := acl) (C := r.1) (T := r.2.1) (N := r.2.2) (fs := fs.map vv) C.1 C.2.1 C.2.2.2.1 h3 C.2.2.2.2.1 C.2.2.2.2.2.2.2.2.2.1 hP q0 hq h1 _ h2 (C.2.2.2.1 _ h4) (a_same C.2.2.2.1 h5) (v := vv v) (by rw [List.getElem?_map, hv]; rfl) hd (k p l e s m args below meth c G ws0 sz mc ms C H locs ws lsA cells slots hL hP hD hS hl hc hs)
theorem wp_getfn {n idx a ci k : Nat} {fs : List aV} {v : aV} (hd : decode (kC K) pc = .ok (.getfield idx, 3)) (hn : pc + 3 = n) (hf : aFldN (kY K).cls idx ci k) (hw : w a = some (.inr (ci, fs))) (hv : fs[k]? = some v) (k : wp K rc rs QR QX n ls (v :: st) w) : wp K rc rs QR QX pc ls (vR (some a) :: st) w := by
  subst hn
  obtain ⟨r, ref, host, h1, h2, h3, h4, h5⟩ := hf
  intro p l e s m args below meth c G ws0 sz mc ms C H locs ws lsA cells slots hL hP hD hS hl hc hs
  obtain ⟨q0, hq⟩ := hL a _ hw
  exact va_getN (D := G.1) (cl := acl) (C := r.1) (T := r.2.1) (N := r.2.2) (fs := fs.map vv) C.1 C.2.1 C.2.2.2.1 h3 C.2.2.2.2.1 C.2.2.2.2.2.2.2.2.2.1 hP q0 hq h1 _ h2 (va_Nw.use rfl (C.2.2.2.2.2.2.2.2.2.2.1.1 _ h4 rfl)) (a_same C.2.2.2.1 (Or.inl h5)) (v := vv v) (by rw [List.getElem?_map, hv]; rfl) hd (k p l e s m args below meth c G ws0 sz mc ms C H locs ws lsA cells slots hL hP hD hS hl hc hs)
theorem wp_putf {n idx a ci k : Nat} {fs : List aV} {v : aV} {ty0 : Nat → FieldType} (hd : decode (kC K) pc = .ok (.putfield idx, 3)) (hn : pc + 3 = n) (hf : aFld (kY K).cls idx ci k) (ht : aTy ci ty0) (hfin : aFin (kY K).cls (kY K).name ci k) (hw : w a = some (.inr (ci, fs))) (hk : k < fs.length) (hv : narrow (ty0 k) (vv v) = vv v) (hv2 : fits (ty0 k) (vv v) = true) (kk : wp K rc rs QR QX n ls st (aup w a (.inr (ci, fs.set k v)))) : wp K rc rs QR QX pc ls (v :: vR (some a) :: st) w := by
  subst hn
  obtain ⟨r, ref, h1, h2, h3, h4, h5⟩ := hf
  obtain ⟨r', e1, t1, t2⟩ := ht
  obtain ⟨r'', e2, t3⟩ := hfin
  cases h1.symm.trans e1
  cases h1.symm.trans e2
  intro p l e s m args below meth c G ws0 sz mc ms C H locs ws lsA cells slots hL hP hD hS hl hc hs
  obtain ⟨q0, hq⟩ := hL a _ hw
  have key : ∀ (H1 : Heap) (locs1 : List Loc), va_P G.1 acl (ws.set q0 (a, .inr (ci, (fs.map vv).set k (vv v)))) H1 → va_D (va_A ws0 sz) (ws.set q0 (a, .inr (ci, (fs.map vv).set k (vv v)))) → va_S (va_A ws0 sz) s.heap H1 locs1 → W p l e (arm (kD K) mc ms) s m args below meth c H1 locs1 cells slots (vx_MQ below (aQc G QR ws0 sz) (aXC G QX ws0 sz) args s mc ms (va_A ws0 sz)) (F0 m (pc + 3) lsA (st.map vv)) := by
    intro H1 locs1 hP1 hD1 hS1
    rw [← List.map_set] at hP1 hD1
    exact kk p l e s m args below meth c G ws0 sz mc ms C H1 locs1 _ lsA cells slots (hL.set (A := va_A ws0 sz) (c := .inr (ci, fs.set k v)) hq) hP1 hD1 hS1 hl hc hs
  rcases t3 with t3 | ⟨t3, t4, t5⟩
  · exact va_put (D := G.1) (cl := acl) (C := r.1) (T := r.2.1) (N := r.2.2) (fs := fs.map vv) C.1 C.2.1 C.2.2.2.1 h3 ty0 t1 t2 C.2.2.2.2.1 C.2.2.2.2.2.2.2.2.2.1 hP hD hS q0 hq h1 k h2 (C.2.2.2.1 _ h4) (a_same C.2.2.2.1 h5) t3 (t1 k h2) hv hv2 (by simpa using hk) hd key
  · exact va_putF (D := G.1) (cl := acl) (C := r.1) (T := r.2.1) (N := r.2.2) (fs := fs.map vv) C.1 C.2.1 C.2.2.2.1 h3 ty0 t1 t2 C.2.2.2.2.1 C.2.2.2.2.2.2.2.2.2.1 hP hD hS q0 hq h1 k h2 (C.2.2.2.1 _ h4) (a_same C.2.2.2.1 h5) t3 (C.2.2.2.2.2.2.2.2.2.2.2.2.1.trans t4) t5 (t1 k h2) hv hv2 (by simpa using hk) hd key
theorem wp_putfn {n idx a ci k : Nat} {fs : List aV} {v : aV} {ty0 : Nat → FieldType} (hd : decode (kC K) pc = .ok (.putfield idx, 3)) (hn : pc + 3 = n) (hf : aFldN (kY K).cls idx ci k) (ht : aTy ci ty0) (hfin : aFin (kY K).cls "" ci k) (hw : w a = some (.inr (ci, fs))) (hk : k < fs.length) (hv : narrow (ty0 k) (vv v) = vv v) (hv2 : fits (ty0 k) (vv v) = true) (kk : wp K rc rs QR QX n ls st (aup w a (.inr (ci, fs.set k v)))) : wp K rc rs QR QX pc ls (v :: vR (some a) :: st) w := by
  subst hn
  obtain ⟨r, ref, host, h1, h2, h3, h4, h5⟩ := hf
  obtain ⟨r', e1, t1, t2⟩ := ht
  obtain ⟨r'', e2, t3⟩ := hfin
  cases h1.symm.trans e1
  cases h1.symm.trans e2
  intro p l e s m args below meth c G ws0 sz mc ms C H locs ws lsA cells slots hL hP hD hS hl hc hs
  obtain ⟨q0, hq⟩ := hL a _ hw
  have key : ∀ (H1 : Heap) (locs1 : List Loc), va_P G.1 acl (ws.set q0 (a, .inr (ci, (fs.map vv).set k (vv v)))) H1 → va_D (va_A ws0 sz) (ws.set q0 (a, .inr (ci, (fs.map vv).set k (vv v)))) → va_S (va_A ws0 sz) s.heap H1 locs1 → W p l e (arm (kD K) mc ms) s m args below meth c H1 locs1 cells slots (vx_MQ below (aQc G QR ws0 sz) (aXC G QX ws0 sz) args s mc ms (va_A ws0 sz)) (F0 m (pc + 3) lsA (st.map vv)) := by
    intro H1 locs1 hP1 hD1 hS1
    rw [← List.map_set] at hP1 hD1
    exact kk p l e s m args below meth c G ws0 sz mc ms C H1 locs1 _ lsA cells slots (hL.set (A := va_A ws0 sz) (c := .inr (ci, fs.set k v)) hq) hP1 hD1 hS1 hl hc hs
  rcases t3 with t3 | ⟨t3, t4, t5⟩
  · exact va_putN (D := G.1) (cl := acl) (C := r.1) (T := r.2.1) (N := r.2.2) (fs := fs.map vv) C.1 C.2.1 C.2.2.2.1 h3 ty0 t1 t2 C.2.2.2.2.1 C.2.2.2.2.2.2.2.2.2.1 hP hD hS q0 hq h1 k h2 (va_Nw.use rfl (C.2.2.2.2.2.2.2.2.2.2.1.1 _ h4 rfl)) (a_same C.2.2.2.1 (Or.inl h5)) t3 (t1 k h2) hv hv2 (by simpa using hk) hd key
  · exact absurd t4 (by decide)
theorem wp_iald {n a N : Nat} {f : Nat → Int32} {i : Int32} (hd : decode (kC K) pc = .ok (.iaload, 1)) (hn : pc + 1 = n) (hw : w a = some (.inl (0, N, .inl f))) (hi : vp_in i N) (k : wp K rc rs QR QX n ls (vI (f i.toNatClampNeg) :: st) w) : wp K rc rs QR QX pc ls (vI i :: vR (some a) :: st) w := by
  subst hn
  intro p l e s m args below meth c G ws0 sz mc ms C H locs ws lsA cells slots hL hP hD hS hl hc hs
  obtain ⟨q0, hq⟩ := hL a _ hw
  exact va_iald (D := G.1) (cl := acl) C.1 C.2.1 C.2.2.2.2.2.2.2.2.2.1 hP q0 0 hq (atys_at G (by decide)) hi hd (k p l e s m args below meth c G ws0 sz mc ms C H locs ws lsA cells slots hL hP hD hS hl hc hs)
theorem wp_lald {n a N : Nat} {f : Nat → Int64} {i : Int32} (hd : decode (kC K) pc = .ok (.laload, 1)) (hn : pc + 1 = n) (hw : w a = some (.inl (1, N, .inr (.inl f)))) (hi : vp_in i N) (k : wp K rc rs QR QX n ls (vL (f i.toNatClampNeg) :: st) w) : wp K rc rs QR QX pc ls (vI i :: vR (some a) :: st) w := by
  subst hn
  intro p l e s m args below meth c G ws0 sz mc ms C H locs ws lsA cells slots hL hP hD hS hl hc hs
  obtain ⟨q0, hq⟩ := hL a _ hw
  exact va_lald (D := G.1) (cl := acl) C.1 C.2.1 C.2.2.2.2.2.2.2.2.2.1 hP q0 1 hq (atys_at G (by decide)) hi hd (k p l e s m args below meth c G ws0 sz mc ms C H locs ws lsA cells slots hL hP hD hS hl hc hs)
theorem wp_aald {n a N t : Nat} {f : Nat → Option Nat} {i : Int32} (hd : decode (kC K) pc = .ok (.aaload, 1)) (hn : pc + 1 = n) (ht : 2 ≤ t ∧ t < 7) (hw : w a = some (.inl (t, N, .inr (.inr (.inr (.inr f)))))) (hi : vp_in i N) (k : wp K rc rs QR QX n ls (vR (f i.toNatClampNeg) :: st) w) : wp K rc rs QR QX pc ls (vI i :: vR (some a) :: st) w := by
  subst hn
  intro p l e s m args below meth c G ws0 sz mc ms C H locs ws lsA cells slots hL hP hD hS hl hc hs
  obtain ⟨q0, hq⟩ := hL a _ hw
  have hlt : i.toNatClampNeg < N := Nat.not_le.mp fun q => hi (Or.inr q)
  have hty : (aty t).isReference = true := by
    match t, ht with
    | 0, h => exact absurd h.1 (by decide)
    | 1, h => exact absurd h.1 (by decide)
    | 2, _ => rfl
    | 3, _ => rfl
    | 4, _ => rfl
    | 5, _ => rfl
    | 6, _ => rfl
    | t + 7, h => exact absurd h.2 (by omega)
  have hA : s.isArrayOf (arrV (G.2 t) N (fun j => va_rf (f j))) (aty t) := (C.2.2.2.2.2.2.2.2.2.1.2 t _ (atys_at G ht.2)).1 N _
  exact W.aald (v := va_rf (f i.toNatClampNeg)) (ty := aty t) C.1 C.2.1 (hP q0 _ hq) hA hty (fun q => by cases q) (by show ¬ (i < 0 ∨ (arrV _ _ _).slots.size ≤ _); rw [arrV_size]; exact hi) (by show (arrV _ _ _).slots[_]? = _; rw [arrV_read _ _ hlt]) rfl rfl hd (k p l e s m args below meth c G ws0 sz mc ms C H locs ws lsA cells slots hL hP hD hS hl hc hs)
theorem wp_iast {n a N : Nat} {f : Nat → Int32} {i x : Int32} (hd : decode (kC K) pc = .ok (.iastore, 1)) (hn : pc + 1 = n) (hw : w a = some (.inl (0, N, .inl f))) (hi : vp_in i N) (k : wp K rc rs QR QX n ls st (aup w a (.inl (0, N, .inl (upd f i.toNatClampNeg x))))) : wp K rc rs QR QX pc ls (vI x :: vI i :: vR (some a) :: st) w := by
  subst hn
  intro p l e s m args below meth c G ws0 sz mc ms C H locs ws lsA cells slots hL hP hD hS hl hc hs
  obtain ⟨q0, hq⟩ := hL a _ hw
  exact va_iast (D := G.1) (cl := acl) C.1 C.2.1 C.2.2.2.2.2.2.2.2.2.1 hP hD hS q0 0 hq (atys_at G (by decide)) hi hd (fun H1 locs1 hP1 hD1 hS1 => k p l e s m args below meth c G ws0 sz mc ms C H1 locs1 _ lsA cells slots (hL.set (A := va_A ws0 sz) (c := .inl (0, N, .inl (upd f i.toNatClampNeg x))) hq) hP1 hD1 hS1 hl hc hs)
theorem wp_last {n a N : Nat} {f : Nat → Int64} {i : Int32} {x : Int64} (hd : decode (kC K) pc = .ok (.lastore, 1)) (hn : pc + 1 = n) (hw : w a = some (.inl (1, N, .inr (.inl f)))) (hi : vp_in i N) (k : wp K rc rs QR QX n ls st (aup w a (.inl (1, N, .inr (.inl (vp_updL f i.toNatClampNeg x)))))) : wp K rc rs QR QX pc ls (vL x :: vI i :: vR (some a) :: st) w := by
  subst hn
  intro p l e s m args below meth c G ws0 sz mc ms C H locs ws lsA cells slots hL hP hD hS hl hc hs
  obtain ⟨q0, hq⟩ := hL a _ hw
  exact va_last (D := G.1) (cl := acl) C.1 C.2.1 C.2.2.2.2.2.2.2.2.2.1 hP hD hS q0 1 hq (atys_at G (by decide)) hi hd (fun H1 locs1 hP1 hD1 hS1 => k p l e s m args below meth c G ws0 sz mc ms C H1 locs1 _ lsA cells slots (hL.set (A := va_A ws0 sz) (c := .inl (1, N, .inr (.inl (vp_updL f i.toNatClampNeg x)))) hq) hP1 hD1 hS1 hl hc hs)
/-- an object of kind ci may lie in a row of objects E -/
theorem a_any {G : aG} {s : State} {H : Heap} {ws : va_W} (hE : aEnv s) (hK : va_K G.1 acl (atys G) s) (hP : va_P G.1 acl ws H) (hL : LW G w ws) {a : Nat} {c : aCell} (hw : w a = some c) (hk : aKind c) {E : String} (hc : aCast (aName c) E) : va_Any E s H a := by
  obtain ⟨cell, h1, h2, h3⟩ := a_recv hK hP hL hw hk
  obtain ⟨kC9, hkC, -⟩ := Vm.findClass_spec h3
  refine ⟨cell, h1, h2, ⟨kC9, hkC⟩, fun comp h => ?_⟩
  rcases hc with hc | hc
  · rw [hc] at h3
    cases h3.symm.trans h
    exact va_asg _ _
  · obtain ⟨c1, c2, e1, e2, e3⟩ := Cond.castable_spec (va_Nw.use (A := #[]) rfl (hE.1 _ hc rfl))
    cases e1.symm.trans h3
    cases e2.symm.trans h
    exact e3
theorem wp_aast {n a N t v : Nat} {f : Nat → Option Nat} {i : Int32} {c0 : aCell} {E : String} (hd : decode (kC K) pc = .ok (.aastore, 1)) (hn : pc + 1 = n) (ht : t < 7) (hE : aty t = .object E) (hw : w a = some (.inl (t, N, .inr (.inr (.inr (.inr f)))))) (hv : w v = some c0) (hk : aKind c0) (hc : aCast (aName c0) E) (hi : vp_in i N) (k : wp K rc rs QR QX n ls st (aup w a (.inl (t, N, .inr (.inr (.inr (.inr (va_up f i.toNatClampNeg (some v))))))))) : wp K rc rs QR QX pc ls (vR (some v) :: vI i :: vR (some a) :: st) w := by
  subst hn
  intro p l e s m args below meth c G ws0 sz mc ms C H locs ws lsA cells slots hL hP hD hS hl hc2 hs
  obtain ⟨q0, hq⟩ := hL a _ hw
  have ht2 := atys_at G ht
  rw [hE] at ht2
  exact va_astqM (D := G.1) (cl := acl) (E := E) C.1 C.2.1 C.2.2.2.2.2.2.2.2.2.1 hP hD hS q0 t hq ht2 (a_any C.2.2.2.2.2.2.2.2.2.2.1 C.2.2.2.2.2.2.2.2.2.1 hP hL hv hk hc) hi hd (fun H1 locs1 hP1 hD1 hS1 => k p l e s m args below meth c G ws0 sz mc ms C H1 locs1 _ lsA cells slots (hL.set (A := va_A ws0 sz) (c := .inl (t, N, .inr (.inr (.inr (.inr (va_up f i.toNatClampNeg (some v))))))) hq) hP1 hD1 hS1 hl hc2 hs)
theorem wp_aastN {n a N t : Nat} {f : Nat → Option Nat} {i : Int32} {E : String} (hd : decode (kC K) pc = .ok (.aastore, 1)) (hn : pc + 1 = n) (ht : t < 7) (hE : aty t = .object E) (hw : w a = some (.inl (t, N, .inr (.inr (.inr (.inr f)))))) (hi : vp_in i N) (k : wp K rc rs QR QX n ls st (aup w a (.inl (t, N, .inr (.inr (.inr (.inr (va_up f i.toNatClampNeg none)))))))) : wp K rc rs QR QX pc ls (vR none :: vI i :: vR (some a) :: st) w := by
  subst hn
  intro p l e s m args below meth c G ws0 sz mc ms C H locs ws lsA cells slots hL hP hD hS hl hc2 hs
  obtain ⟨q0, hq⟩ := hL a _ hw
  have ht2 := atys_at G ht
  rw [hE] at ht2
  exact va_astqN (D := G.1) (cl := acl) (C := E) C.1 C.2.1 C.2.2.2.2.2.2.2.2.2.1 hP hD hS q0 t hq ht2 hi hd (fun H1 locs1 hP1 hD1 hS1 => k p l e s m args below meth c G ws0 sz mc ms C H1 locs1 _ lsA cells slots (hL.set (A := va_A ws0 sz) (c := .inl (t, N, .inr (.inr (.inr (.inr (va_up f i.toNatClampNeg none)))))) hq) hP1 hD1 hS1 hl hc2 hs)
theorem wp_alen {n a t N : Nat} {x : ((Nat → Int32) ⊕ (Nat → Int64) ⊕ (Nat → UInt32) ⊕ (Nat → UInt64) ⊕ (Nat → Option Nat))} (hd : decode (kC K) pc = .ok (.arraylength, 1)) (hn : pc + 1 = n) (ht : t < 7) (hw : w a = some (.inl (t, N, x))) (k : wp K rc rs QR QX n ls (vI (Int32.ofNat N) :: st) w) : wp K rc rs QR QX pc ls (vR (some a) :: st) w := by
  subst hn
  intro p l e s m args below meth c G ws0 sz mc ms C H locs ws lsA cells slots hL hP hD hS hl hc hs
  obtain ⟨q0, hq⟩ := hL a _ hw
  exact va_alen (D := G.1) (cl := acl) (v := Int32.ofNat N) C.1 C.2.1 C.2.2.2.2.2.2.2.2.2.1 hP q0 t hq (atys_at G ht) rfl hd (k p l e s m args below meth c G ws0 sz mc ms C H locs ws lsA cells slots hL hP hD hS hl hc hs)
/-- a made row's class is the one that the tables say -/
theorem a_cA {G : aG} {s : State} {t : Nat} (ht : t < 7) {cA : ClassId} (hK : va_K G.1 acl (atys G) s) (hK1 : va_K G.1 acl (atys G ++ [(cA, aty t)]) s) : cA = G.2 t := by
  have h0 := aty_name hK ht
  have h1 := (hK1.2 7 (cA, aty t) (by rw [List.getElem?_append_right (by simp [atys])]; simp [atys])).2
  have h2 : s.vm.findClass ("[" ++ (aty t).toString) = some cA := by
    match t, ht, h1 with
    | 0, _, h => exact h
    | 1, _, h => exact h
    | 2, _, h => obtain ⟨_, _, _, _, _, h⟩ := h; exact h
    | 3, _, h => obtain ⟨_, _, _, _, _, h⟩ := h; exact h
    | 4, _, h => obtain ⟨_, _, _, _, _, h⟩ := h; exact h
    | 5, _, h => obtain ⟨_, _, _, _, _, h⟩ := h; exact h
    | 6, _, h => exact h
  exact Option.some.inj (h2.symm.trans h0)
theorem a_new {ws0 : va_W} {sz : Nat} {s : State} (h : s.heap.size = sz) : ∀ q, s.heap.size ≤ q → va_A ws0 sz q := fun q hq => Or.inr (by rw [← h]; exact hq)
theorem wp_newi {n N rc' rs' : Nat} {x : Int32} (hd : decode (kC K) pc = .ok (.newarray .int, 2)) (hn : pc + 2 = n) (hx : ¬ x < 0) (hN : x.toNatClampNeg = N) (hb : N ≤ 1000) (h1 : rc' + 1 ≤ rc) (h2 : rs' + N ≤ rs) (hw : Cond.arrayClass FieldType.int ∈ lw_all) (k : ∀ a : Nat, w a = none → wp K rc' rs' QR QX n ls (vR (some a) :: st) (aup w a (.inl (0, N, .inl (fun _ => 0))))) : wp K rc rs QR QX pc ls (vI x :: st) w := by
  subst hn
  intro p l e s m args below meth c G ws0 sz mc ms C H locs ws lsA cells slots hL hP hD hS hl hc hs
  have hKs := C.2.2.2.2.2.2.2.2.2.1
  refine va_newa (D := G.1) (cl := acl) (atype := .int) (ty := .int) (a0 := (N, .inl (fun _ => 0))) C.1 C.2.1 (C.2.2.2.1 _ hw) rfl hKs hP hD hS (a_new C.2.2.2.2.2.2.2.2.2.2.2.1) (fun _ => rfl) hx hN (by show N * 4 ≤ _; omega) (by show cells + 1 ≤ mc; omega) (by show slots + N ≤ ms; omega) hd (fun q cA H1 hK1 hP1 hD1 hS1 => ?_)
  cases a_cA (t := 0) (by decide) hKs hK1
  exact k q (hL.fresh hD1) p l e s m args below meth c G ws0 sz mc ms C H1 locs _ lsA (cells + 1) (slots + N) (hL.push (c := .inl (0, N, .inl (fun _ => 0)))) hP1 hD1 hS1 hl (by omega) (by omega)
theorem wp_newl {n N rc' rs' : Nat} {x : Int32} (hd : decode (kC K) pc = .ok (.newarray .long, 2)) (hn : pc + 2 = n) (hx : ¬ x < 0) (hN : x.toNatClampNeg = N) (hb : N ≤ 1000) (h1 : rc' + 1 ≤ rc) (h2 : rs' + N ≤ rs) (hw : Cond.arrayClass FieldType.long ∈ lw_all) (k : ∀ a : Nat, w a = none → wp K rc' rs' QR QX n ls (vR (some a) :: st) (aup w a (.inl (1, N, .inr (.inl (fun _ => 0)))))) : wp K rc rs QR QX pc ls (vI x :: st) w := by
  subst hn
  intro p l e s m args below meth c G ws0 sz mc ms C H locs ws lsA cells slots hL hP hD hS hl hc hs
  have hKs := C.2.2.2.2.2.2.2.2.2.1
  refine va_newa (D := G.1) (cl := acl) (atype := .long) (ty := .long) (a0 := (N, .inr (.inl (fun _ => 0)))) C.1 C.2.1 (C.2.2.2.1 _ hw) rfl hKs hP hD hS (a_new C.2.2.2.2.2.2.2.2.2.2.2.1) (fun _ => rfl) hx hN (by show N * 8 ≤ _; omega) (by show cells + 1 ≤ mc; omega) (by show slots + N ≤ ms; omega) hd (fun q cA H1 hK1 hP1 hD1 hS1 => ?_)
  cases a_cA (t := 1) (by decide) hKs hK1
  exact k q (hL.fresh hD1) p l e s m args below meth c G ws0 sz mc ms C H1 locs _ lsA (cells + 1) (slots + N) (hL.push (c := .inl (1, N, .inr (.inl (fun _ => 0))))) hP1 hD1 hS1 hl (by omega) (by omega)
theorem wp_newq {n N rc' rs' t idx : Nat} {x : Int32} {E : String} (hd : decode (kC K) pc = .ok (.anewarray idx, 3)) (hn : pc + 3 = n) (ht : t < 7) (hE : aty t = .object E) (hl0 : Cond.classLink (kY K).cls idx E ∈ lw_all) (ho : FieldType.object E ∈ aOV) (hx : ¬ x < 0) (hN : x.toNatClampNeg = N) (hb : N ≤ 1000) (h1 : rc' + 1 ≤ rc) (h2 : rs' + N ≤ rs) (k : ∀ a : Nat, w a = none → wp K rc' rs' QR QX n ls (vR (some a) :: st) (aup w a (.inl (t, N, .inr (.inr (.inr (.inr (fun _ => none)))))))) : wp K rc rs QR QX pc ls (vI x :: st) w := by
  subst hn
  intro p l e s m args below meth c G ws0 sz mc ms C H locs ws lsA cells slots hL hP hD hS hl hc hs
  have hKs := C.2.2.2.2.2.2.2.2.2.1
  refine va_newq (D := G.1) (cl := acl) (C := E) C.1 C.2.1 C.2.2.2.2.1 (C.2.2.2.1 _ hl0) (C.2.2.2.2.2.2.2.2.2.2.1.2.2.1 _ ho) hKs hP hD hS (a_new C.2.2.2.2.2.2.2.2.2.2.2.1) hx hN (by omega) (by show cells + 1 ≤ mc; omega) (by show slots + N ≤ ms; omega) hd (fun q cA H1 hK1 hP1 hD1 hS1 => ?_)
  rw [← hE] at hK1
  cases a_cA ht hKs hK1
  exact k q (hL.fresh hD1) p l e s m args below meth c G ws0 sz mc ms C H1 locs _ lsA (cells + 1) (slots + N) (hL.push (c := .inl (t, N, .inr (.inr (.inr (.inr (fun _ => none))))))) hP1 hD1 hS1 hl (by omega) (by omega)
/-- what 'new' of kind ci asks, and the fields' first values -/
def aNew (own : String) (idx ci : Nat) (fs : List aV) : Prop := ∃ (r : vw_C) (ty0 : Nat → FieldType), acl[ci]? = some r ∧ fs.length = r.2.2 ∧ (∀ w ∈ u_ws r.1 r.2.1 r.2.2, w ∈ lw_all) ∧ (∀ k, k < r.2.2 → parseFieldDescriptor (r.2.1 k).2.2.1 = some (ty0 k)) ∧ Cond.classLink own idx r.1 ∈ lw_all ∧ Cond.instantiable r.1 r.2.2 ∈ lw_all ∧ Cond.initialized r.1 ∈ lw_all ∧ (∀ j, j < r.2.2 → defaultValue (ty0 j) = vp_V (fs.map vv) j)
theorem wp_new {n rc' rs' idx ci : Nat} {fs : List aV} (hd : decode (kC K) pc = .ok (.new idx, 3)) (hn : pc + 3 = n) (hf : aNew (kY K).cls idx ci fs) (h1 : rc' + 1 ≤ rc) (h2 : rs' + fs.length ≤ rs) (k : ∀ a : Nat, w a = none → wp K rc' rs' QR QX n ls (vR (some a) :: st) (aup w a (.inr (ci, fs)))) : wp K rc rs QR QX pc ls st w := by
  subst hn
  obtain ⟨r, ty0, e1, e2, e3, e4, e5, e6, e7, e8⟩ := hf
  rw [e2] at h2
  intro p l e s m args below meth c G ws0 sz mc ms C H locs ws lsA cells slots hL hP hD hS hl hc hs
  have hKs := C.2.2.2.2.2.2.2.2.2.1
  refine va_new (D := G.1) (cl := acl) (C := r.1) (T := r.2.1) (N := r.2.2) (fs := fs.map vv) C.1 C.2.1 C.2.2.2.1 e3 ty0 e4 C.2.2.2.2.1 (C.2.2.2.1 _ e5) (C.2.2.2.1 _ e6) (C.2.2.2.1 _ e7) hKs hP hD hS (a_new C.2.2.2.2.2.2.2.2.2.2.2.1) e1 e8 (by show cells + 1 ≤ mc; omega) (by show slots + r.2.2 ≤ ms; omega) hd (fun q H1 hP1 hD1 hS1 => ?_)
  exact k q (hL.fresh hD1) p l e s m args below meth c G ws0 sz mc ms C H1 locs _ lsA (cells + 1) (slots + r.2.2) (hL.push (c := .inr (ci, fs))) hP1 hD1 hS1 hl (by omega) (by omega)
theorem wp_castN {n idx : Nat} (hd : decode (kC K) pc = .ok (.checkcast idx, 3)) (hn : pc + 3 = n) (k : wp K rc rs QR QX n ls (vR none :: st) w) : wp K rc rs QR QX pc ls (vR none :: st) w := by
  subst hn
  exact fun p l e s m args below meth c G ws0 sz mc ms C H locs ws lsA cells slots hL hP hD hS hl hc hs => lv_castN C.1 C.2.1 hd (k p l e s m args below meth c G ws0 sz mc ms C H locs ws lsA cells slots hL hP hD hS hl hc hs)
theorem wp_instN {n idx : Nat} (hd : decode (kC K) pc = .ok (.instanceof idx, 3)) (hn : pc + 3 = n) (k : wp K rc rs QR QX n ls (vI 0 :: st) w) : wp K rc rs QR QX pc ls (vR none :: st) w := by
  subst hn
  exact fun p l e s m args below meth c G ws0 sz mc ms C H locs ws lsA cells slots hL hP hD hS hl hc hs => lv_instN C.1 C.2.1 hd (k p l e s m args below meth c G ws0 sz mc ms C H locs ws lsA cells slots hL hP hD hS hl hc hs)
theorem wp_castY {n idx a : Nat} {c0 : aCell} {nm : String} (hd : decode (kC K) pc = .ok (.checkcast idx, 3)) (hn : pc + 3 = n) (hl0 : Cond.classLink (kY K).cls idx nm ∈ lw_all) (hw : w a = some c0) (hk : aKind c0) (hc : aCast (aName c0) nm) (k : wp K rc rs QR QX n ls (vR (some a) :: st) w) : wp K rc rs QR QX pc ls (vR (some a) :: st) w := by
  subst hn
  intro p l e s m args below meth c G ws0 sz mc ms C H locs ws lsA cells slots hL hP hD hS hl hc2 hs
  have hr := a_recv C.2.2.2.2.2.2.2.2.2.1 hP hL hw hk
  have k0 := (k p l e s m args below meth c G ws0 sz mc ms C H locs ws lsA cells slots hL hP hD hS hl hc2 hs)
  rcases hc with hc | hc
  · rw [hc] at hr
    exact va_castE C.1 C.2.1 C.2.2.2.2.1 (C.2.2.2.1 _ hl0) hr hd k0
  · exact va_castY C.1 C.2.1 C.2.2.2.2.1 (C.2.2.2.1 _ hl0) (C.2.2.2.2.2.2.2.2.2.2.1.1 _ hc rfl) hr hd k0
theorem wp_instY {n idx a : Nat} {c0 : aCell} {nm : String} (hd : decode (kC K) pc = .ok (.instanceof idx, 3)) (hn : pc + 3 = n) (hl0 : Cond.classLink (kY K).cls idx nm ∈ lw_all) (hw : w a = some c0) (hk : aKind c0) (hc : aCast (aName c0) nm) (k : wp K rc rs QR QX n ls (vI 1 :: st) w) : wp K rc rs QR QX pc ls (vR (some a) :: st) w := by
  subst hn
  intro p l e s m args below meth c G ws0 sz mc ms C H locs ws lsA cells slots hL hP hD hS hl hc2 hs
  have hr := a_recv C.2.2.2.2.2.2.2.2.2.1 hP hL hw hk
  have k0 := (k p l e s m args below meth c G ws0 sz mc ms C H locs ws lsA cells slots hL hP hD hS hl hc2 hs)
  rcases hc with hc | hc
  · rw [hc] at hr
    exact va_instE C.1 C.2.1 C.2.2.2.2.1 (C.2.2.2.1 _ hl0) hr hd k0
  · exact va_instY C.1 C.2.1 C.2.2.2.2.1 (C.2.2.2.1 _ hl0) (C.2.2.2.2.2.2.2.2.2.2.1.1 _ hc rfl) hr hd k0
theorem wp_instX {n idx a : Nat} {c0 : aCell} {nm : String} (hd : decode (kC K) pc = .ok (.instanceof idx, 3)) (hn : pc + 3 = n) (hl0 : Cond.classLink (kY K).cls idx nm ∈ lw_all) (hw : w a = some c0) (hk : aKind c0) (hc : (aName c0, nm) ∈ aNC) (k : wp K rc rs QR QX n ls (vI 0 :: st) w) : wp K rc rs QR QX pc ls (vR (some a) :: st) w := by
  subst hn
  intro p l e s m args below meth c G ws0 sz mc ms C H locs ws lsA cells slots hL hP hD hS hl hc2 hs
  have hr := a_recv C.2.2.2.2.2.2.2.2.2.1 hP hL hw hk
  exact va_instNo C.1 C.2.1 C.2.2.2.2.1 (C.2.2.2.1 _ hl0) (C.2.2.2.2.2.2.2.2.2.2.1.2.1 _ hc) hr hd (k p l e s m args below meth c G ws0 sz mc ms C H locs ws lsA cells slots hL hP hD hS hl hc2 hs)
end WP3
