/-! ===== THE WP LAYER 2: instructions on stack and locals, branches, ends ===== -/
section WP2
variable {K : aK} {rc rs : Nat} {QR : Option aV → aW → Prop} {QX : String → aW → Prop} {pc : Nat} {ls : List (Nat × aV)} {st : List aV} {w : aW}
theorem lvv_at {ls : List (Nat × aV)} {k i : Nat} {v : aV} (h : ls[k]? = some (i, v)) : (lvv ls)[k]? = some (i, vv v) := by
  simp [lvv, h]
/-- fewer locals, in another order, by their places -/
theorem wp_sub (ks : List Nat) {ls' : List (Nat × aV)} (h : ks.filterMap (fun k => ls[k]?) = ls') (k : wp K rc rs QR QX pc ls' st w) : wp K rc rs QR QX pc ls st w := by
  intro p l e s m args below meth c G ws0 sz mc ms C H locs ws lsA cells slots hL hP hD hS hl hc hs
  refine k p l e s m args below meth c G ws0 sz mc ms C H locs ws lsA cells slots hL hP hD hS ⟨hl.1, hl.2.1, fun q hq => hl.2.2 q ?_⟩ hc hs
  subst h
  obtain ⟨x, hx, rfl⟩ := List.mem_map.mp hq
  obtain ⟨j, -, hj⟩ := List.mem_filterMap.mp hx
  exact List.mem_map.mpr ⟨x, List.mem_of_getElem? hj, rfl⟩
theorem wp_budget {rc' rs' : Nat} (h1 : rc' ≤ rc) (h2 : rs' ≤ rs) (k : wp K rc' rs' QR QX pc ls st w) : wp K rc rs QR QX pc ls st w :=
  fun p l e s m args below meth c G ws0 sz mc ms C H locs ws lsA cells slots hL hP hD hS hl hc hs => k p l e s m args below meth c G ws0 sz mc ms C H locs ws lsA cells slots hL hP hD hS hl (by omega) (by omega)
/-- locals behind a store of a value of one place -/
def lset (i : Nat) (v : aV) (ls : List (Nat × aV)) : List (Nat × aV) := (i, v) :: ls.filter (fun q => !(q.1 == i) && !(q.1 + 1 == i && vcat q.2 == 2))
def lset2 (i : Nat) (v : aV) (ls : List (Nat × aV)) : List (Nat × aV) := (i, v) :: ls.filter (fun q => !(q.1 == i) && (!(q.1 == i + 1) && !(q.1 + 1 == i && vcat q.2 == 2)))
theorem lset_eq {i : Nat} {v : aV} {ls ls' : List (Nat × aV)} (h : lset i v ls = ls') : (i, vv v) :: (lvv ls).filter (fun q => !(q.1 == i) && !(q.1 + 1 == i && q.2.category == 2)) = lvv ls' := by
  subst h
  simp only [lset, lvv, List.map_cons, List.filter_map]
  congr 2
  refine congrArg (fun f => List.filter f ls) ?_
  funext q
  simp [vv_cat]
theorem lset2_eq {i : Nat} {v : aV} {ls ls' : List (Nat × aV)} (h : lset2 i v ls = ls') : (i, vv v) :: (lvv ls).filter (fun q => !(q.1 == i) && (!(q.1 == i + 1) && !(q.1 + 1 == i && q.2.category == 2))) = lvv ls' := by
  subst h
  simp only [lset2, lvv, List.map_cons, List.filter_map]
  congr 2
  refine congrArg (fun f => List.filter f ls) ?_
  funext q
  simp [vv_cat]
theorem wp_iconst {n : Nat} {i : Int} {v : Int32} (hd : decode (kC K) pc = .ok (.iconst i, 1)) (hn : pc + 1 = n) (hv : Int32.ofInt i = v) (k : wp K rc rs QR QX n ls (vI v :: st) w) : wp K rc rs QR QX pc ls (st) w := by
  subst hn
  exact fun p l e s m args below meth c G ws0 sz mc ms C H locs ws lsA cells slots hL hP hD hS hl hc hs => lv_iconst C.1 C.2.1 hd hv (k p l e s m args below meth c G ws0 sz mc ms C H locs ws lsA cells slots hL hP hD hS hl hc hs)
theorem wp_bipush {n : Nat} {i : Int} {v : Int32} (hd : decode (kC K) pc = .ok (.bipush i, 2)) (hn : pc + 2 = n) (hv : (Int8.ofInt i).toInt32 = v) (k : wp K rc rs QR QX n ls (vI v :: st) w) : wp K rc rs QR QX pc ls (st) w := by
  subst hn
  exact fun p l e s m args below meth c G ws0 sz mc ms C H locs ws lsA cells slots hL hP hD hS hl hc hs => lv_bipush C.1 C.2.1 hd hv (k p l e s m args below meth c G ws0 sz mc ms C H locs ws lsA cells slots hL hP hD hS hl hc hs)
theorem wp_sipush {n : Nat} {i : Int} {v : Int32} (hd : decode (kC K) pc = .ok (.sipush i, 3)) (hn : pc + 3 = n) (hv : (Int16.ofInt i).toInt32 = v) (k : wp K rc rs QR QX n ls (vI v :: st) w) : wp K rc rs QR QX pc ls (st) w := by
  subst hn
  exact fun p l e s m args below meth c G ws0 sz mc ms C H locs ws lsA cells slots hL hP hD hS hl hc hs => lv_sipush C.1 C.2.1 hd hv (k p l e s m args below meth c G ws0 sz mc ms C H locs ws lsA cells slots hL hP hD hS hl hc hs)
theorem wp_lconst {n : Nat} {i : Fin 2} {v : Int64} (hd : decode (kC K) pc = .ok (.lconst i, 1)) (hn : pc + 1 = n) (hv : Int64.ofNat (i : Nat) = v) (k : wp K rc rs QR QX n ls (vL v :: st) w) : wp K rc rs QR QX pc ls (st) w := by
  subst hn
  exact fun p l e s m args below meth c G ws0 sz mc ms C H locs ws lsA cells slots hL hP hD hS hl hc hs => lv_lconst C.1 C.2.1 hd hv (k p l e s m args below meth c G ws0 sz mc ms C H locs ws lsA cells slots hL hP hD hS hl hc hs)
theorem wp_null {n : Nat}  (hd : decode (kC K) pc = .ok (.aconst_null, 1)) (hn : pc + 1 = n)  (k : wp K rc rs QR QX n ls (vR none :: st) w) : wp K rc rs QR QX pc ls (st) w := by
  subst hn
  exact fun p l e s m args below meth c G ws0 sz mc ms C H locs ws lsA cells slots hL hP hD hS hl hc hs => lv_null C.1 C.2.1 hd (k p l e s m args below meth c G ws0 sz mc ms C H locs ws lsA cells slots hL hP hD hS hl hc hs)
theorem wp_iload_n {n : Nat} {j : Fin 4} {i q : Nat} {x : Int32} (hd : decode (kC K) pc = .ok (.iload_n j, 1)) (hn : pc + 1 = n) (hi : (j : Nat) = i) (hq : ls[q]? = some (i, vI x)) (k : wp K rc rs QR QX n ls (vI x :: st) w) : wp K rc rs QR QX pc ls (st) w := by
  subst hn
  exact fun p l e s m args below meth c G ws0 sz mc ms C H locs ws lsA cells slots hL hP hD hS hl hc hs => lv_iload_n C.1 C.2.1 hd hi (lv_at hl q (lvv_at hq)) (k p l e s m args below meth c G ws0 sz mc ms C H locs ws lsA cells slots hL hP hD hS hl hc hs)
theorem wp_iload {n : Nat} {i q : Nat} {x : Int32} (hd : decode (kC K) pc = .ok (.iload i, 2)) (hn : pc + 2 = n) (hq : ls[q]? = some (i, vI x)) (k : wp K rc rs QR QX n ls (vI x :: st) w) : wp K rc rs QR QX pc ls (st) w := by
  subst hn
  exact fun p l e s m args below meth c G ws0 sz mc ms C H locs ws lsA cells slots hL hP hD hS hl hc hs => lv_iload C.1 C.2.1 hd (lv_at hl q (lvv_at hq)) (k p l e s m args below meth c G ws0 sz mc ms C H locs ws lsA cells slots hL hP hD hS hl hc hs)
theorem wp_lload_n {n : Nat} {j : Fin 4} {i q : Nat} {x : Int64} (hd : decode (kC K) pc = .ok (.lload_n j, 1)) (hn : pc + 1 = n) (hi : (j : Nat) = i) (hq : ls[q]? = some (i, vL x)) (k : wp K rc rs QR QX n ls (vL x :: st) w) : wp K rc rs QR QX pc ls (st) w := by
  subst hn
  exact fun p l e s m args below meth c G ws0 sz mc ms C H locs ws lsA cells slots hL hP hD hS hl hc hs => lv_lload_n C.1 C.2.1 hd hi (lv_at hl q (lvv_at hq)) (k p l e s m args below meth c G ws0 sz mc ms C H locs ws lsA cells slots hL hP hD hS hl hc hs)
theorem wp_lload {n : Nat} {i q : Nat} {x : Int64} (hd : decode (kC K) pc = .ok (.lload i, 2)) (hn : pc + 2 = n) (hq : ls[q]? = some (i, vL x)) (k : wp K rc rs QR QX n ls (vL x :: st) w) : wp K rc rs QR QX pc ls (st) w := by
  subst hn
  exact fun p l e s m args below meth c G ws0 sz mc ms C H locs ws lsA cells slots hL hP hD hS hl hc hs => lv_lload C.1 C.2.1 hd (lv_at hl q (lvv_at hq)) (k p l e s m args below meth c G ws0 sz mc ms C H locs ws lsA cells slots hL hP hD hS hl hc hs)
theorem wp_aload_n {n : Nat} {j : Fin 4} {i q : Nat} {r : Option Nat} (hd : decode (kC K) pc = .ok (.aload_n j, 1)) (hn : pc + 1 = n) (hi : (j : Nat) = i) (hq : ls[q]? = some (i, vR r)) (k : wp K rc rs QR QX n ls (vR r :: st) w) : wp K rc rs QR QX pc ls st w := by
  subst hn
  intro p l e s m args below meth c G ws0 sz mc ms C H locs ws lsA cells slots hL hP hD hS hl hc hs
  have h0 := lv_at hl q (lvv_at hq)
  have k0 := (k p l e s m args below meth c G ws0 sz mc ms C H locs ws lsA cells slots hL hP hD hS hl hc hs)
  cases r with
  | none => exact lv_aload_nN C.1 C.2.1 hd hi h0 k0
  | some a => exact lv_aload_n C.1 C.2.1 hd hi h0 k0
theorem wp_aload {n : Nat} {i q : Nat} {r : Option Nat} (hd : decode (kC K) pc = .ok (.aload i, 2)) (hn : pc + 2 = n) (hq : ls[q]? = some (i, vR r)) (k : wp K rc rs QR QX n ls (vR r :: st) w) : wp K rc rs QR QX pc ls st w := by
  subst hn
  intro p l e s m args below meth c G ws0 sz mc ms C H locs ws lsA cells slots hL hP hD hS hl hc hs
  have h0 := lv_at hl q (lvv_at hq)
  have k0 := (k p l e s m args below meth c G ws0 sz mc ms C H locs ws lsA cells slots hL hP hD hS hl hc hs)
  cases r with
  | none => exact lv_aloadN C.1 C.2.1 hd h0 k0
  | some a => exact lv_aload C.1 C.2.1 hd h0 k0
theorem wp_istore_n {n : Nat} {j : Fin 4} {i : Nat} {x : Int32} {ls' : List (Nat × aV)} (hd : decode (kC K) pc = .ok (.istore_n j, 1)) (hn : pc + 1 = n) (hi : (j : Nat) = i) (hb : i < kL K) (he : lset i (vI x) ls = ls') (k : wp K rc rs QR QX n ls' st w) : wp K rc rs QR QX pc ls (vI x :: st) w := by
  subst hn
  intro p l e s m args below meth c G ws0 sz mc ms C H locs ws lsA cells slots hL hP hD hS hl hc hs
  exact lv_istore_n C.1 C.2.1 hd hi hl hb (lset_eq he) (fun lsB hB => (k p l e s m args below meth c G ws0 sz mc ms C H locs ws lsB cells slots hL hP hD hS hB hc hs))
theorem wp_istore {n : Nat} {i : Nat} {x : Int32} {ls' : List (Nat × aV)} (hd : decode (kC K) pc = .ok (.istore i, 2)) (hn : pc + 2 = n) (hb : i < kL K) (he : lset i (vI x) ls = ls') (k : wp K rc rs QR QX n ls' st w) : wp K rc rs QR QX pc ls (vI x :: st) w := by
  subst hn
  intro p l e s m args below meth c G ws0 sz mc ms C H locs ws lsA cells slots hL hP hD hS hl hc hs
  exact lv_istore C.1 C.2.1 hd hl hb (lset_eq he) (fun lsB hB => (k p l e s m args below meth c G ws0 sz mc ms C H locs ws lsB cells slots hL hP hD hS hB hc hs))
theorem wp_lstore_n {n : Nat} {j : Fin 4} {i : Nat} {x : Int64} {ls' : List (Nat × aV)} (hd : decode (kC K) pc = .ok (.lstore_n j, 1)) (hn : pc + 1 = n) (hi : (j : Nat) = i) (hb : i + 1 < kL K) (he : lset2 i (vL x) ls = ls') (k : wp K rc rs QR QX n ls' st w) : wp K rc rs QR QX pc ls (vL x :: st) w := by
  subst hn
  intro p l e s m args below meth c G ws0 sz mc ms C H locs ws lsA cells slots hL hP hD hS hl hc hs
  exact lv_lstore_n C.1 C.2.1 hd hi hl hb (lset2_eq he) (fun lsB hB => (k p l e s m args below meth c G ws0 sz mc ms C H locs ws lsB cells slots hL hP hD hS hB hc hs))
theorem wp_lstore {n : Nat} {i : Nat} {x : Int64} {ls' : List (Nat × aV)} (hd : decode (kC K) pc = .ok (.lstore i, 2)) (hn : pc + 2 = n) (hb : i + 1 < kL K) (he : lset2 i (vL x) ls = ls') (k : wp K rc rs QR QX n ls' st w) : wp K rc rs QR QX pc ls (vL x :: st) w := by
  subst hn
  intro p l e s m args below meth c G ws0 sz mc ms C H locs ws lsA cells slots hL hP hD hS hl hc hs
  exact lv_lstore C.1 C.2.1 hd hl hb (lset2_eq he) (fun lsB hB => (k p l e s m args below meth c G ws0 sz mc ms C H locs ws lsB cells slots hL hP hD hS hB hc hs))
theorem wp_astore_n {n : Nat} {j : Fin 4} {i : Nat} {r : Option Nat} {ls' : List (Nat × aV)} (hd : decode (kC K) pc = .ok (.astore_n j, 1)) (hn : pc + 1 = n) (hi : (j : Nat) = i) (hb : i < kL K) (he : lset i (vR r) ls = ls') (k : wp K rc rs QR QX n ls' st w) : wp K rc rs QR QX pc ls (vR r :: st) w := by
  subst hn
  intro p l e s m args below meth c G ws0 sz mc ms C H locs ws lsA cells slots hL hP hD hS hl hc hs
  cases r with
  | none => exact lv_astore_nN C.1 C.2.1 hd hi hl hb (lset_eq he) (fun lsB hB => (k p l e s m args below meth c G ws0 sz mc ms C H locs ws lsB cells slots hL hP hD hS hB hc hs))
  | some a => exact lv_astore_n C.1 C.2.1 hd hi hl hb (lset_eq he) (fun lsB hB => (k p l e s m args below meth c G ws0 sz mc ms C H locs ws lsB cells slots hL hP hD hS hB hc hs))
theorem wp_astore {n : Nat} {i : Nat} {r : Option Nat} {ls' : List (Nat × aV)} (hd : decode (kC K) pc = .ok (.astore i, 2)) (hn : pc + 2 = n) (hb : i < kL K) (he : lset i (vR r) ls = ls') (k : wp K rc rs QR QX n ls' st w) : wp K rc rs QR QX pc ls (vR r :: st) w := by
  subst hn
  intro p l e s m args below meth c G ws0 sz mc ms C H locs ws lsA cells slots hL hP hD hS hl hc hs
  cases r with
  | none => exact lv_astoreN C.1 C.2.1 hd hl hb (lset_eq he) (fun lsB hB => (k p l e s m args below meth c G ws0 sz mc ms C H locs ws lsB cells slots hL hP hD hS hB hc hs))
  | some a => exact lv_astore C.1 C.2.1 hd hl hb (lset_eq he) (fun lsB hB => (k p l e s m args below meth c G ws0 sz mc ms C H locs ws lsB cells slots hL hP hD hS hB hc hs))
theorem wp_iinc {n i q : Nat} {d : Int} {x v : Int32} {ls' : List (Nat × aV)} (hd : decode (kC K) pc = .ok (.iinc i d, 3)) (hn : pc + 3 = n) (hq : ls[q]? = some (i, vI x)) (hv : x + Int32.ofInt d = v) (hb : i < kL K) (he : lset i (vI v) ls = ls') (k : wp K rc rs QR QX n ls' st w) : wp K rc rs QR QX pc ls st w := by
  subst hn
  exact fun p l e s m args below meth c G ws0 sz mc ms C H locs ws lsA cells slots hL hP hD hS hl hc hs => lv_iinc C.1 C.2.1 hd hl (lvv_at hq) hv hb (lset_eq he) (fun lsB hB => (k p l e s m args below meth c G ws0 sz mc ms C H locs ws lsB cells slots hL hP hD hS hB hc hs))
theorem wp_iadd {n : Nat} {x y : Int32} (hd : decode (kC K) pc = .ok (.iadd, 1)) (hn : pc + 1 = n)  (k : wp K rc rs QR QX n ls (vI (x + y) :: st) w) : wp K rc rs QR QX pc ls (vI y :: vI x :: st) w := by
  subst hn
  exact fun p l e s m args below meth c G ws0 sz mc ms C H locs ws lsA cells slots hL hP hD hS hl hc hs => lv_iadd C.1 C.2.1 hd (k p l e s m args below meth c G ws0 sz mc ms C H locs ws lsA cells slots hL hP hD hS hl hc hs)
theorem wp_isub {n : Nat} {x y : Int32} (hd : decode (kC K) pc = .ok (.isub, 1)) (hn : pc + 1 = n)  (k : wp K rc rs QR QX n ls (vI (x - y) :: st) w) : wp K rc rs QR QX pc ls (vI y :: vI x :: st) w := by
  subst hn
  exact fun p l e s m args below meth c G ws0 sz mc ms C H locs ws lsA cells slots hL hP hD hS hl hc hs => lv_isub C.1 C.2.1 hd (k p l e s m args below meth c G ws0 sz mc ms C H locs ws lsA cells slots hL hP hD hS hl hc hs)
theorem wp_imul {n : Nat} {x y : Int32} (hd : decode (kC K) pc = .ok (.imul, 1)) (hn : pc + 1 = n)  (k : wp K rc rs QR QX n ls (vI (x * y) :: st) w) : wp K rc rs QR QX pc ls (vI y :: vI x :: st) w := by
  subst hn
  exact fun p l e s m args below meth c G ws0 sz mc ms C H locs ws lsA cells slots hL hP hD hS hl hc hs => lv_imul C.1 C.2.1 hd (k p l e s m args below meth c G ws0 sz mc ms C H locs ws lsA cells slots hL hP hD hS hl hc hs)
theorem wp_iand {n : Nat} {x y : Int32} (hd : decode (kC K) pc = .ok (.iand, 1)) (hn : pc + 1 = n)  (k : wp K rc rs QR QX n ls (vI (x &&& y) :: st) w) : wp K rc rs QR QX pc ls (vI y :: vI x :: st) w := by
  subst hn
  exact fun p l e s m args below meth c G ws0 sz mc ms C H locs ws lsA cells slots hL hP hD hS hl hc hs => lv_iand C.1 C.2.1 hd (k p l e s m args below meth c G ws0 sz mc ms C H locs ws lsA cells slots hL hP hD hS hl hc hs)
theorem wp_ior {n : Nat} {x y : Int32} (hd : decode (kC K) pc = .ok (.ior, 1)) (hn : pc + 1 = n)  (k : wp K rc rs QR QX n ls (vI (x ||| y) :: st) w) : wp K rc rs QR QX pc ls (vI y :: vI x :: st) w := by
  subst hn
  exact fun p l e s m args below meth c G ws0 sz mc ms C H locs ws lsA cells slots hL hP hD hS hl hc hs => lv_ior C.1 C.2.1 hd (k p l e s m args below meth c G ws0 sz mc ms C H locs ws lsA cells slots hL hP hD hS hl hc hs)
theorem wp_ixor {n : Nat} {x y : Int32} (hd : decode (kC K) pc = .ok (.ixor, 1)) (hn : pc + 1 = n)  (k : wp K rc rs QR QX n ls (vI (x ^^^ y) :: st) w) : wp K rc rs QR QX pc ls (vI y :: vI x :: st) w := by
  subst hn
  exact fun p l e s m args below meth c G ws0 sz mc ms C H locs ws lsA cells slots hL hP hD hS hl hc hs => lv_ixor C.1 C.2.1 hd (k p l e s m args below meth c G ws0 sz mc ms C H locs ws lsA cells slots hL hP hD hS hl hc hs)
theorem wp_ladd {n : Nat} {x y : Int64} (hd : decode (kC K) pc = .ok (.ladd, 1)) (hn : pc + 1 = n)  (k : wp K rc rs QR QX n ls (vL (x + y) :: st) w) : wp K rc rs QR QX pc ls (vL y :: vL x :: st) w := by
  subst hn
  exact fun p l e s m args below meth c G ws0 sz mc ms C H locs ws lsA cells slots hL hP hD hS hl hc hs => lv_ladd C.1 C.2.1 hd (k p l e s m args below meth c G ws0 sz mc ms C H locs ws lsA cells slots hL hP hD hS hl hc hs)
theorem wp_lsub {n : Nat} {x y : Int64} (hd : decode (kC K) pc = .ok (.lsub, 1)) (hn : pc + 1 = n)  (k : wp K rc rs QR QX n ls (vL (x - y) :: st) w) : wp K rc rs QR QX pc ls (vL y :: vL x :: st) w := by
  subst hn
  exact fun p l e s m args below meth c G ws0 sz mc ms C H locs ws lsA cells slots hL hP hD hS hl hc hs => lv_lsub C.1 C.2.1 hd (k p l e s m args below meth c G ws0 sz mc ms C H locs ws lsA cells slots hL hP hD hS hl hc hs)
theorem wp_land {n : Nat} {x y : Int64} (hd : decode (kC K) pc = .ok (.land, 1)) (hn : pc + 1 = n)  (k : wp K rc rs QR QX n ls (vL (x &&& y) :: st) w) : wp K rc rs QR QX pc ls (vL y :: vL x :: st) w := by
  subst hn
  exact fun p l e s m args below meth c G ws0 sz mc ms C H locs ws lsA cells slots hL hP hD hS hl hc hs => lv_land C.1 C.2.1 hd (k p l e s m args below meth c G ws0 sz mc ms C H locs ws lsA cells slots hL hP hD hS hl hc hs)
theorem wp_lor {n : Nat} {x y : Int64} (hd : decode (kC K) pc = .ok (.lor, 1)) (hn : pc + 1 = n)  (k : wp K rc rs QR QX n ls (vL (x ||| y) :: st) w) : wp K rc rs QR QX pc ls (vL y :: vL x :: st) w := by
  subst hn
  exact fun p l e s m args below meth c G ws0 sz mc ms C H locs ws lsA cells slots hL hP hD hS hl hc hs => lv_lor C.1 C.2.1 hd (k p l e s m args below meth c G ws0 sz mc ms C H locs ws lsA cells slots hL hP hD hS hl hc hs)
theorem wp_idiv {n : Nat} {x y : Int32} (hd : decode (kC K) pc = .ok (.idiv, 1)) (hn : pc + 1 = n) (h0 : ¬ y = 0) (k : wp K rc rs QR QX n ls (vI (x / y) :: st) w) : wp K rc rs QR QX pc ls (vI y :: vI x :: st) w := by
  subst hn
  exact fun p l e s m args below meth c G ws0 sz mc ms C H locs ws lsA cells slots hL hP hD hS hl hc hs => lv_idiv C.1 C.2.1 hd h0 (k p l e s m args below meth c G ws0 sz mc ms C H locs ws lsA cells slots hL hP hD hS hl hc hs)
theorem wp_irem {n : Nat} {x y : Int32} (hd : decode (kC K) pc = .ok (.irem, 1)) (hn : pc + 1 = n) (h0 : ¬ y = 0) (k : wp K rc rs QR QX n ls (vI (x - x / y * y) :: st) w) : wp K rc rs QR QX pc ls (vI y :: vI x :: st) w := by
  subst hn
  exact fun p l e s m args below meth c G ws0 sz mc ms C H locs ws lsA cells slots hL hP hD hS hl hc hs => lv_irem C.1 C.2.1 hd h0 (k p l e s m args below meth c G ws0 sz mc ms C H locs ws lsA cells slots hL hP hD hS hl hc hs)
theorem wp_ishl {n : Nat} {x y : Int32} (hd : decode (kC K) pc = .ok (.ishl, 1)) (hn : pc + 1 = n)  (k : wp K rc rs QR QX n ls (vI (x <<< (y &&& 31)) :: st) w) : wp K rc rs QR QX pc ls (vI y :: vI x :: st) w := by
  subst hn
  exact fun p l e s m args below meth c G ws0 sz mc ms C H locs ws lsA cells slots hL hP hD hS hl hc hs => lv_ishl C.1 C.2.1 hd (k p l e s m args below meth c G ws0 sz mc ms C H locs ws lsA cells slots hL hP hD hS hl hc hs)
theorem wp_ishr {n : Nat} {x y : Int32} (hd : decode (kC K) pc = .ok (.ishr, 1)) (hn : pc + 1 = n)  (k : wp K rc rs QR QX n ls (vI (x >>> (y &&& 31)) :: st) w) : wp K rc rs QR QX pc ls (vI y :: vI x :: st) w := by
  subst hn
  exact fun p l e s m args below meth c G ws0 sz mc ms C H locs ws lsA cells slots hL hP hD hS hl hc hs => lv_ishr C.1 C.2.1 hd (k p l e s m args below meth c G ws0 sz mc ms C H locs ws lsA cells slots hL hP hD hS hl hc hs)
theorem wp_iushr {n : Nat} {x y z : Int32} (hd : decode (kC K) pc = .ok (.iushr, 1)) (hn : pc + 1 = n) (hz : (x.toUInt32 >>> (y.toUInt32 &&& Int32.toUInt32 31)).toInt32 = z) (k : wp K rc rs QR QX n ls (vI z :: st) w) : wp K rc rs QR QX pc ls (vI y :: vI x :: st) w := by
  subst hn
  exact fun p l e s m args below meth c G ws0 sz mc ms C H locs ws lsA cells slots hL hP hD hS hl hc hs => lv_iushr C.1 C.2.1 hd hz (k p l e s m args below meth c G ws0 sz mc ms C H locs ws lsA cells slots hL hP hD hS hl hc hs)
theorem wp_lshl {n : Nat} {x : Int64} {y : Int32} {z : Int64} (hd : decode (kC K) pc = .ok (.lshl, 1)) (hn : pc + 1 = n) (hz : x <<< (y.toInt64 &&& 63) = z) (k : wp K rc rs QR QX n ls (vL z :: st) w) : wp K rc rs QR QX pc ls (vI y :: vL x :: st) w := by
  subst hn
  exact fun p l e s m args below meth c G ws0 sz mc ms C H locs ws lsA cells slots hL hP hD hS hl hc hs => lv_lshl C.1 C.2.1 hd hz (k p l e s m args below meth c G ws0 sz mc ms C H locs ws lsA cells slots hL hP hD hS hl hc hs)
theorem wp_lcmp {n : Nat} {x y : Int64} (hd : decode (kC K) pc = .ok (.lcmp, 1)) (hn : pc + 1 = n)  (k : wp K rc rs QR QX n ls (vI (lg_cmp x y) :: st) w) : wp K rc rs QR QX pc ls (vL y :: vL x :: st) w := by
  subst hn
  exact fun p l e s m args below meth c G ws0 sz mc ms C H locs ws lsA cells slots hL hP hD hS hl hc hs => W.lcmp C.1 C.2.1 hd (k p l e s m args below meth c G ws0 sz mc ms C H locs ws lsA cells slots hL hP hD hS hl hc hs)
theorem wp_i2l {n : Nat} {x : Int32} (hd : decode (kC K) pc = .ok (.i2l, 1)) (hn : pc + 1 = n)  (k : wp K rc rs QR QX n ls (vL x.toInt64 :: st) w) : wp K rc rs QR QX pc ls (vI x :: st) w := by
  subst hn
  exact fun p l e s m args below meth c G ws0 sz mc ms C H locs ws lsA cells slots hL hP hD hS hl hc hs => lv_i2l C.1 C.2.1 hd rfl (k p l e s m args below meth c G ws0 sz mc ms C H locs ws lsA cells slots hL hP hD hS hl hc hs)
theorem wp_l2i {n : Nat} {x : Int64} (hd : decode (kC K) pc = .ok (.l2i, 1)) (hn : pc + 1 = n)  (k : wp K rc rs QR QX n ls (vI x.toInt32 :: st) w) : wp K rc rs QR QX pc ls (vL x :: st) w := by
  subst hn
  exact fun p l e s m args below meth c G ws0 sz mc ms C H locs ws lsA cells slots hL hP hD hS hl hc hs => lv_l2i C.1 C.2.1 hd rfl (k p l e s m args below meth c G ws0 sz mc ms C H locs ws lsA cells slots hL hP hD hS hl hc hs)
theorem wp_dup {n : Nat} {v : aV} (hd : decode (kC K) pc = .ok (.dup, 1)) (hn : pc + 1 = n) (hv : vcat v = 1) (k : wp K rc rs QR QX n ls (v :: v :: st) w) : wp K rc rs QR QX pc ls (v :: st) w := by
  subst hn
  exact fun p l e s m args below meth c G ws0 sz mc ms C H locs ws lsA cells slots hL hP hD hS hl hc hs => lv_dup C.1 C.2.1 hd ((vv_cat v).trans hv) (k p l e s m args below meth c G ws0 sz mc ms C H locs ws lsA cells slots hL hP hD hS hl hc hs)
theorem wp_pop {n : Nat} {v : aV} (hd : decode (kC K) pc = .ok (.pop, 1)) (hn : pc + 1 = n) (hv : vcat v = 1) (k : wp K rc rs QR QX n ls (st) w) : wp K rc rs QR QX pc ls (v :: st) w := by
  subst hn
  exact fun p l e s m args below meth c G ws0 sz mc ms C H locs ws lsA cells slots hL hP hD hS hl hc hs => lv_pop C.1 C.2.1 hd ((vv_cat v).trans hv) (k p l e s m args below meth c G ws0 sz mc ms C H locs ws lsA cells slots hL hP hD hS hl hc hs)
theorem wp_dup2_11 {n : Nat} {v u : aV} (hd : decode (kC K) pc = .ok (.dup2, 1)) (hn : pc + 1 = n) (hv : vcat v = 1) (hu : vcat u = 1) (k : wp K rc rs QR QX n ls (v :: u :: v :: u :: st) w) : wp K rc rs QR QX pc ls (v :: u :: st) w := by
  subst hn
  exact fun p l e s m args below meth c G ws0 sz mc ms C H locs ws lsA cells slots hL hP hD hS hl hc hs => lv_dup2_11 C.1 C.2.1 hd ((vv_cat v).trans hv) ((vv_cat u).trans hu) (k p l e s m args below meth c G ws0 sz mc ms C H locs ws lsA cells slots hL hP hD hS hl hc hs)
theorem wp_dup2_2 {n : Nat} {v : aV} (hd : decode (kC K) pc = .ok (.dup2, 1)) (hn : pc + 1 = n) (hv : vcat v = 2) (k : wp K rc rs QR QX n ls (v :: v :: st) w) : wp K rc rs QR QX pc ls (v :: st) w := by
  subst hn
  exact fun p l e s m args below meth c G ws0 sz mc ms C H locs ws lsA cells slots hL hP hD hS hl hc hs => lv_dup2_2 C.1 C.2.1 hd ((vv_cat v).trans hv) (k p l e s m args below meth c G ws0 sz mc ms C H locs ws lsA cells slots hL hP hD hS hl hc hs)
theorem wp_if_eq {n t : Nat} {x : Int32} {off : Int} (hd : decode (kC K) pc = .ok (.ifCond .eq off, 3)) (hn : pc + 3 = n) (ht : (pc : Int) + off = (t : Int)) (kt : x = 0 → wp K rc rs QR QX t ls st w) (kf : ¬ x = 0 → wp K rc rs QR QX n ls st w) : wp K rc rs QR QX pc ls (vI x :: st) w := by
  subst hn
  exact fun p l e s m args below meth c G ws0 sz mc ms C H locs ws lsA cells slots hL hP hD hS hl hc hs => lv_if_eq C.1 C.2.1 hd ht (fun z => (kt z p l e s m args below meth c G ws0 sz mc ms C H locs ws lsA cells slots hL hP hD hS hl hc hs)) (fun z => (kf z p l e s m args below meth c G ws0 sz mc ms C H locs ws lsA cells slots hL hP hD hS hl hc hs))
theorem wp_icmp_eq {n t : Nat} {x y : Int32} {off : Int} (hd : decode (kC K) pc = .ok (.if_icmp .eq off, 3)) (hn : pc + 3 = n) (ht : (pc : Int) + off = (t : Int)) (kt : x = y → wp K rc rs QR QX t ls st w) (kf : ¬ x = y → wp K rc rs QR QX n ls st w) : wp K rc rs QR QX pc ls (vI y :: vI x :: st) w := by
  subst hn
  exact fun p l e s m args below meth c G ws0 sz mc ms C H locs ws lsA cells slots hL hP hD hS hl hc hs => lv_icmp_eq C.1 C.2.1 hd ht (fun z => (kt z p l e s m args below meth c G ws0 sz mc ms C H locs ws lsA cells slots hL hP hD hS hl hc hs)) (fun z => (kf z p l e s m args below meth c G ws0 sz mc ms C H locs ws lsA cells slots hL hP hD hS hl hc hs))
theorem wp_if_ne {n t : Nat} {x : Int32} {off : Int} (hd : decode (kC K) pc = .ok (.ifCond .ne off, 3)) (hn : pc + 3 = n) (ht : (pc : Int) + off = (t : Int)) (kt : ¬ x = 0 → wp K rc rs QR QX t ls st w) (kf : x = 0 → wp K rc rs QR QX n ls st w) : wp K rc rs QR QX pc ls (vI x :: st) w := by
  subst hn
  exact fun p l e s m args below meth c G ws0 sz mc ms C H locs ws lsA cells slots hL hP hD hS hl hc hs => lv_if_ne C.1 C.2.1 hd ht (fun z => (kt z p l e s m args below meth c G ws0 sz mc ms C H locs ws lsA cells slots hL hP hD hS hl hc hs)) (fun z => (kf z p l e s m args below meth c G ws0 sz mc ms C H locs ws lsA cells slots hL hP hD hS hl hc hs))
theorem wp_icmp_ne {n t : Nat} {x y : Int32} {off : Int} (hd : decode (kC K) pc = .ok (.if_icmp .ne off, 3)) (hn : pc + 3 = n) (ht : (pc : Int) + off = (t : Int)) (kt : ¬ x = y → wp K rc rs QR QX t ls st w) (kf : x = y → wp K rc rs QR QX n ls st w) : wp K rc rs QR QX pc ls (vI y :: vI x :: st) w := by
  subst hn
  exact fun p l e s m args below meth c G ws0 sz mc ms C H locs ws lsA cells slots hL hP hD hS hl hc hs => lv_icmp_ne C.1 C.2.1 hd ht (fun z => (kt z p l e s m args below meth c G ws0 sz mc ms C H locs ws lsA cells slots hL hP hD hS hl hc hs)) (fun z => (kf z p l e s m args below meth c G ws0 sz mc ms C H locs ws lsA cells slots hL hP hD hS hl hc hs))
theorem wp_if_lt {n t : Nat} {x : Int32} {off : Int} (hd : decode (kC K) pc = .ok (.ifCond .lt off, 3)) (hn : pc + 3 = n) (ht : (pc : Int) + off = (t : Int)) (kt : x < 0 → wp K rc rs QR QX t ls st w) (kf : ¬ x < 0 → wp K rc rs QR QX n ls st w) : wp K rc rs QR QX pc ls (vI x :: st) w := by
  subst hn
  exact fun p l e s m args below meth c G ws0 sz mc ms C H locs ws lsA cells slots hL hP hD hS hl hc hs => lv_if_lt C.1 C.2.1 hd ht (fun z => (kt z p l e s m args below meth c G ws0 sz mc ms C H locs ws lsA cells slots hL hP hD hS hl hc hs)) (fun z => (kf z p l e s m args below meth c G ws0 sz mc ms C H locs ws lsA cells slots hL hP hD hS hl hc hs))
theorem wp_icmp_lt {n t : Nat} {x y : Int32} {off : Int} (hd : decode (kC K) pc = .ok (.if_icmp .lt off, 3)) (hn : pc + 3 = n) (ht : (pc : Int) + off = (t : Int)) (kt : x < y → wp K rc rs QR QX t ls st w) (kf : ¬ x < y → wp K rc rs QR QX n ls st w) : wp K rc rs QR QX pc ls (vI y :: vI x :: st) w := by
  subst hn
  exact fun p l e s m args below meth c G ws0 sz mc ms C H locs ws lsA cells slots hL hP hD hS hl hc hs => lv_icmp_lt C.1 C.2.1 hd ht (fun z => (kt z p l e s m args below meth c G ws0 sz mc ms C H locs ws lsA cells slots hL hP hD hS hl hc hs)) (fun z => (kf z p l e s m args below meth c G ws0 sz mc ms C H locs ws lsA cells slots hL hP hD hS hl hc hs))
theorem wp_if_ge {n t : Nat} {x : Int32} {off : Int} (hd : decode (kC K) pc = .ok (.ifCond .ge off, 3)) (hn : pc + 3 = n) (ht : (pc : Int) + off = (t : Int)) (kt : 0 ≤ x → wp K rc rs QR QX t ls st w) (kf : ¬ 0 ≤ x → wp K rc rs QR QX n ls st w) : wp K rc rs QR QX pc ls (vI x :: st) w := by
  subst hn
  exact fun p l e s m args below meth c G ws0 sz mc ms C H locs ws lsA cells slots hL hP hD hS hl hc hs => lv_if_ge C.1 C.2.1 hd ht (fun z => (kt z p l e s m args below meth c G ws0 sz mc ms C H locs ws lsA cells slots hL hP hD hS hl hc hs)) (fun z => (kf z p l e s m args below meth c G ws0 sz mc ms C H locs ws lsA cells slots hL hP hD hS hl hc hs))
theorem wp_icmp_ge {n t : Nat} {x y : Int32} {off : Int} (hd : decode (kC K) pc = .ok (.if_icmp .ge off, 3)) (hn : pc + 3 = n) (ht : (pc : Int) + off = (t : Int)) (kt : y ≤ x → wp K rc rs QR QX t ls st w) (kf : ¬ y ≤ x → wp K rc rs QR QX n ls st w) : wp K rc rs QR QX pc ls (vI y :: vI x :: st) w := by
  subst hn
  exact fun p l e s m args below meth c G ws0 sz mc ms C H locs ws lsA cells slots hL hP hD hS hl hc hs => lv_icmp_ge C.1 C.2.1 hd ht (fun z => (kt z p l e s m args below meth c G ws0 sz mc ms C H locs ws lsA cells slots hL hP hD hS hl hc hs)) (fun z => (kf z p l e s m args below meth c G ws0 sz mc ms C H locs ws lsA cells slots hL hP hD hS hl hc hs))
theorem wp_if_gt {n t : Nat} {x : Int32} {off : Int} (hd : decode (kC K) pc = .ok (.ifCond .gt off, 3)) (hn : pc + 3 = n) (ht : (pc : Int) + off = (t : Int)) (kt : 0 < x → wp K rc rs QR QX t ls st w) (kf : ¬ 0 < x → wp K rc rs QR QX n ls st w) : wp K rc rs QR QX pc ls (vI x :: st) w := by
  subst hn
  exact fun p l e s m args below meth c G ws0 sz mc ms C H locs ws lsA cells slots hL hP hD hS hl hc hs => lv_if_gt C.1 C.2.1 hd ht (fun z => (kt z p l e s m args below meth c G ws0 sz mc ms C H locs ws lsA cells slots hL hP hD hS hl hc hs)) (fun z => (kf z p l e s m args below meth c G ws0 sz mc ms C H locs ws lsA cells slots hL hP hD hS hl hc hs))
theorem wp_icmp_gt {n t : Nat} {x y : Int32} {off : Int} (hd : decode (kC K) pc = .ok (.if_icmp .gt off, 3)) (hn : pc + 3 = n) (ht : (pc : Int) + off = (t : Int)) (kt : y < x → wp K rc rs QR QX t ls st w) (kf : ¬ y < x → wp K rc rs QR QX n ls st w) : wp K rc rs QR QX pc ls (vI y :: vI x :: st) w := by
  subst hn
  exact fun p l e s m args below meth c G ws0 sz mc ms C H locs ws lsA cells slots hL hP hD hS hl hc hs => lv_icmp_gt C.1 C.2.1 hd ht (fun z => (kt z p l e s m args below meth c G ws0 sz mc ms C H locs ws lsA cells slots hL hP hD hS hl hc hs)) (fun z => (kf z p l e s m args below meth c G ws0 sz mc ms C H locs ws lsA cells slots hL hP hD hS hl hc hs))
theorem wp_if_le {n t : Nat} {x : Int32} {off : Int} (hd : decode (kC K) pc = .ok (.ifCond .le off, 3)) (hn : pc + 3 = n) (ht : (pc : Int) + off = (t : Int)) (kt : x ≤ 0 → wp K rc rs QR QX t ls st w) (kf : ¬ x ≤ 0 → wp K rc rs QR QX n ls st w) : wp K rc rs QR QX pc ls (vI x :: st) w := by
  subst hn
  exact fun p l e s m args below meth c G ws0 sz mc ms C H locs ws lsA cells slots hL hP hD hS hl hc hs => lv_if_le C.1 C.2.1 hd ht (fun z => (kt z p l e s m args below meth c G ws0 sz mc ms C H locs ws lsA cells slots hL hP hD hS hl hc hs)) (fun z => (kf z p l e s m args below meth c G ws0 sz mc ms C H locs ws lsA cells slots hL hP hD hS hl hc hs))
theorem wp_icmp_le {n t : Nat} {x y : Int32} {off : Int} (hd : decode (kC K) pc = .ok (.if_icmp .le off, 3)) (hn : pc + 3 = n) (ht : (pc : Int) + off = (t : Int)) (kt : x ≤ y → wp K rc rs QR QX t ls st w) (kf : ¬ x ≤ y → wp K rc rs QR QX n ls st w) : wp K rc rs QR QX pc ls (vI y :: vI x :: st) w := by
  subst hn
  exact fun p l e s m args below meth c G ws0 sz mc ms C H locs ws lsA cells slots hL hP hD hS hl hc hs => lv_icmp_le C.1 C.2.1 hd ht (fun z => (kt z p l e s m args below meth c G ws0 sz mc ms C H locs ws lsA cells slots hL hP hD hS hl hc hs)) (fun z => (kf z p l e s m args below meth c G ws0 sz mc ms C H locs ws lsA cells slots hL hP hD hS hl hc hs))
theorem wp_goto {t : Nat} {off : Int} (hd : decode (kC K) pc = .ok (.goto off, 3)) (ht : (pc : Int) + off = (t : Int)) (k : wp K rc rs QR QX t ls st w) : wp K rc rs QR QX pc ls st w := by
  exact fun p l e s m args below meth c G ws0 sz mc ms C H locs ws lsA cells slots hL hP hD hS hl hc hs => lv_goto C.1 C.2.1 hd ht (k p l e s m args below meth c G ws0 sz mc ms C H locs ws lsA cells slots hL hP hD hS hl hc hs)
theorem wp_ifnull {n t : Nat} {r : Option Nat} {off : Int} (hd : decode (kC K) pc = .ok (.ifnull off, 3)) (hn : pc + 3 = n) (ht : (pc : Int) + off = (t : Int)) (kt : r = none → wp K rc rs QR QX t ls st w) (kf : ∀ a : Nat, r = some a → wp K rc rs QR QX n ls st w) : wp K rc rs QR QX pc ls (vR r :: st) w := by
  subst hn
  intro p l e s m args below meth c G ws0 sz mc ms C H locs ws lsA cells slots hL hP hD hS hl hc hs
  cases r with
  | none => exact lv_ifnullN C.1 C.2.1 hd ht (kt rfl p l e s m args below meth c G ws0 sz mc ms C H locs ws lsA cells slots hL hP hD hS hl hc hs)
  | some a => exact lv_ifnull C.1 C.2.1 hd (kf a rfl p l e s m args below meth c G ws0 sz mc ms C H locs ws lsA cells slots hL hP hD hS hl hc hs)
theorem wp_ifnonnull {n t : Nat} {r : Option Nat} {off : Int} (hd : decode (kC K) pc = .ok (.ifnonnull off, 3)) (hn : pc + 3 = n) (ht : (pc : Int) + off = (t : Int)) (kt : ∀ a : Nat, r = some a → wp K rc rs QR QX t ls st w) (kf : r = none → wp K rc rs QR QX n ls st w) : wp K rc rs QR QX pc ls (vR r :: st) w := by
  subst hn
  intro p l e s m args below meth c G ws0 sz mc ms C H locs ws lsA cells slots hL hP hD hS hl hc hs
  cases r with
  | none => exact lv_ifnonnullN C.1 C.2.1 hd (kf rfl p l e s m args below meth c G ws0 sz mc ms C H locs ws lsA cells slots hL hP hD hS hl hc hs)
  | some a => exact lv_ifnonnull C.1 C.2.1 hd ht (kt a rfl p l e s m args below meth c G ws0 sz mc ms C H locs ws lsA cells slots hL hP hD hS hl hc hs)
theorem wp_acmp_eq {n t : Nat} {rx ry : Option Nat} {off : Int} (hd : decode (kC K) pc = .ok (.if_acmp .eq off, 3)) (hn : pc + 3 = n) (ht : (pc : Int) + off = (t : Int)) (kt : rx = ry → wp K rc rs QR QX t ls st w) (kf : ¬ rx = ry → wp K rc rs QR QX n ls st w) : wp K rc rs QR QX pc ls (vR ry :: vR rx :: st) w := by
  subst hn
  exact fun p l e s m args below meth c G ws0 sz mc ms C H locs ws lsA cells slots hL hP hD hS hl hc hs => lv_acmp_eq C.1 C.2.1 hd ht (fun z => (kt z p l e s m args below meth c G ws0 sz mc ms C H locs ws lsA cells slots hL hP hD hS hl hc hs)) (fun z => (kf z p l e s m args below meth c G ws0 sz mc ms C H locs ws lsA cells slots hL hP hD hS hl hc hs))
theorem wp_acmp_ne {n t : Nat} {rx ry : Option Nat} {off : Int} (hd : decode (kC K) pc = .ok (.if_acmp .ne off, 3)) (hn : pc + 3 = n) (ht : (pc : Int) + off = (t : Int)) (kt : ¬ rx = ry → wp K rc rs QR QX t ls st w) (kf : rx = ry → wp K rc rs QR QX n ls st w) : wp K rc rs QR QX pc ls (vR ry :: vR rx :: st) w := by
  subst hn
  exact fun p l e s m args below meth c G ws0 sz mc ms C H locs ws lsA cells slots hL hP hD hS hl hc hs => lv_acmp_ne C.1 C.2.1 hd ht (fun z => (kt z p l e s m args below meth c G ws0 sz mc ms C H locs ws lsA cells slots hL hP hD hS hl hc hs)) (fun z => (kf z p l e s m args below meth c G ws0 sz mc ms C H locs ws lsA cells slots hL hP hD hS hl hc hs))
theorem wp_ldc {n idx : Nat} {v : Int32} (hd : decode (kC K) pc = .ok (.ldc idx, 2)) (hn : pc + 2 = n) (hw : Cond.constant (kY K).cls idx v ∈ lw_all) (k : wp K rc rs QR QX n ls (vI v :: st) w) : wp K rc rs QR QX pc ls st w := by
  subst hn
  exact fun p l e s m args below meth c G ws0 sz mc ms C H locs ws lsA cells slots hL hP hD hS hl hc hs => lv_ldc C.1 C.2.1 C.2.2.2.2.1 (C.2.2.2.1 _ hw) hd (k p l e s m args below meth c G ws0 sz mc ms C H locs ws lsA cells slots hL hP hD hS hl hc hs)
theorem wp_ldcw {n idx : Nat} {v : Int32} (hd : decode (kC K) pc = .ok (.ldc_w idx, 3)) (hn : pc + 3 = n) (hw : Cond.constant (kY K).cls idx v ∈ lw_all) (k : wp K rc rs QR QX n ls (vI v :: st) w) : wp K rc rs QR QX pc ls st w := by
  subst hn
  exact fun p l e s m args below meth c G ws0 sz mc ms C H locs ws lsA cells slots hL hP hD hS hl hc hs => lv_ldcw C.1 C.2.1 C.2.2.2.2.1 (C.2.2.2.1 _ hw) hd (k p l e s m args below meth c G ws0 sz mc ms C H locs ws lsA cells slots hL hP hD hS hl hc hs)
theorem wp_ldc2 {n idx : Nat} {v : Int64} (hd : decode (kC K) pc = .ok (.ldc2_w idx, 3)) (hn : pc + 3 = n) (hw : Cond.constantLong (kY K).cls idx v ∈ lw_all) (k : wp K rc rs QR QX n ls (vL v :: st) w) : wp K rc rs QR QX pc ls st w := by
  subst hn
  exact fun p l e s m args below meth c G ws0 sz mc ms C H locs ws lsA cells slots hL hP hD hS hl hc hs => lv_ldc2 C.1 C.2.1 C.2.2.2.2.1 (C.2.2.2.1 _ hw) hd (k p l e s m args below meth c G ws0 sz mc ms C H locs ws lsA cells slots hL hP hD hS hl hc hs)
theorem wp_tableIn {t len : Nat} {x : Int32} {dflt lo hi off : Int} {offs : Array Int} (hd : decode (kC K) pc = .ok (.tableswitch dflt lo hi offs, len)) (h1 : ¬ x.toInt < lo) (h2 : ¬ hi < x.toInt) (ho : offs[(x.toInt - lo).toNat]? = some off) (ht : (pc : Int) + off = (t : Int)) (k : wp K rc rs QR QX t ls st w) : wp K rc rs QR QX pc ls (vI x :: st) w :=
  fun p l e s m args below meth c G ws0 sz mc ms C H locs ws lsA cells slots hL hP hD hS hl hc hs => lv_tableIn C.1 C.2.1 hd h1 h2 ho ht (k p l e s m args below meth c G ws0 sz mc ms C H locs ws lsA cells slots hL hP hD hS hl hc hs)
theorem wp_tableOut {t len : Nat} {x : Int32} {dflt lo hi : Int} {offs : Array Int} (hd : decode (kC K) pc = .ok (.tableswitch dflt lo hi offs, len)) (h : x.toInt < lo ∨ hi < x.toInt) (ht : (pc : Int) + dflt = (t : Int)) (k : wp K rc rs QR QX t ls st w) : wp K rc rs QR QX pc ls (vI x :: st) w :=
  fun p l e s m args below meth c G ws0 sz mc ms C H locs ws lsA cells slots hL hP hD hS hl hc hs => lv_tableOut C.1 C.2.1 hd h ht (k p l e s m args below meth c G ws0 sz mc ms C H locs ws lsA cells slots hL hP hD hS hl hc hs)
theorem wp_ireturn {x : Int32} (hd : decode (kC K) pc = .ok (.ireturn, 1)) (hr : kR K = some .int) (h : QR (some (vI x)) w) : wp K rc rs QR QX pc ls [vI x] w := by
  intro p l e s m args below meth c G ws0 sz mc ms C H locs ws lsA cells slots hL hP hD hS hl hc hs
  refine W.widen (k := mc) (n := ms) (by omega) (by omega) ?_
  exact vx_ret (W.iret C.1 C.2.1 (C.2.2.1.trans hr) (fun t ht hW => ⟨some (vI x), w, ws, rfl, h, hL, by rw [ht]; exact hP, hD, hS.F ht⟩) hS.2.2 hd C.2.2.2.2.2.1)
theorem wp_zreturn {x : Int32} (hd : decode (kC K) pc = .ok (.ireturn, 1)) (hr : kR K = some .boolean) (hx : narrow .boolean (.int x) = .int x) (h : QR (some (vI x)) w) : wp K rc rs QR QX pc ls [vI x] w := by
  intro p l e s m args below meth c G ws0 sz mc ms C H locs ws lsA cells slots hL hP hD hS hl hc hs
  refine W.widen (k := mc) (n := ms) (by omega) (by omega) ?_
  exact vx_ret (W.zret C.1 C.2.1 (C.2.2.1.trans hr) hx (fun t ht hW => ⟨some (vI x), w, ws, rfl, h, hL, by rw [ht]; exact hP, hD, hS.F ht⟩) hS.2.2 hd C.2.2.2.2.2.1)
theorem wp_lreturn {x : Int64} (hd : decode (kC K) pc = .ok (.lreturn, 1)) (hr : kR K = some .long) (h : QR (some (vL x)) w) : wp K rc rs QR QX pc ls [vL x] w := by
  intro p l e s m args below meth c G ws0 sz mc ms C H locs ws lsA cells slots hL hP hD hS hl hc hs
  refine W.widen (k := mc) (n := ms) (by omega) (by omega) ?_
  exact vx_ret (W.lret C.1 C.2.1 (C.2.2.1.trans hr) (fun t ht hW => ⟨some (vL x), w, ws, rfl, h, hL, by rw [ht]; exact hP, hD, hS.F ht⟩) hS.2.2 hd C.2.2.2.2.2.1)
theorem wp_return  (hd : decode (kC K) pc = .ok (.return_, 1)) (hr : kR K = none) (h : QR none w) : wp K rc rs QR QX pc ls [] w := by
  intro p l e s m args below meth c G ws0 sz mc ms C H locs ws lsA cells slots hL hP hD hS hl hc hs
  refine W.widen (k := mc) (n := ms) (by omega) (by omega) ?_
  exact vx_ret (W.vret C.1 C.2.1 (C.2.2.1.trans hr) (fun t ht hW => ⟨none, w, ws, rfl, h, hL, by rw [ht]; exact hP, hD, hS.F ht⟩) hS.2.2 hd C.2.2.2.2.2.1)
theorem wp_areturn {r : Option Nat} {rt : FieldType} (hd : decode (kC K) pc = .ok (.areturn, 1)) (hr : kR K = some rt) (hrt : (∃ n, rt = .object n) ∨ ∃ t, rt = .array t) (h : QR (some (vR r)) w) : wp K rc rs QR QX pc ls [vR r] w := by
  intro p l e s m args below meth c G ws0 sz mc ms C H locs ws lsA cells slots hL hP hD hS hl hc hs
  refine W.widen (k := mc) (n := ms) (by omega) (by omega) ?_
  exact vx_ret (W.aret C.1 C.2.1 (C.2.2.1.trans hr) hrt (by cases r with | none => exact Or.inl rfl | some a => exact Or.inr ⟨a, rfl⟩) (fun t ht hW => ⟨some (vR r), w, ws, rfl, h, hL, by rw [ht]; exact hP, hD, hS.F ht⟩) hS.2.2 hd C.2.2.2.2.2.1)
end WP2
