/-! ===== THE WP LAYER 5: what is thrown ===== -/
def aTh : List String := ["java/lang/RuntimeException", "java/lang/Exception"]
set_option maxRecDepth 100000
theorem aw_at {L : List Cond} (ps : List Nat) (h : L = ps.filterMap (fun i => lw_tbl[i]?)) : ∀ w ∈ L, w ∈ lw_tbl := by
  intro w hw
  rw [h] at hw
  obtain ⟨i, -, hi⟩ := List.mem_filterMap.mp hw
  exact List.mem_of_getElem? hi
theorem aw_I : ∀ w ∈ vx_at0 "DeadListPool" 55 "java/lang/IndexOutOfBoundsException" aTh, w ∈ lw_tbl := aw_at [96, 402, 342, 362, 365, 367, 403, 404, 115, 116, 336, 341, 363, 370, 396, 371, 397, 372, 398, 337, 339, 399, 467, 468, 469, 415, 389, 415, 416, 417, 418, 391, 418, 419, 420, 403, 393, 466, 458, 459, 460, 346, 461, 462, 463, 464, 368, 400, 465] (by decide +kernel)
theorem aw_N : ∀ w ∈ vx_atN 8, w ∈ lw_tbl := aw_at [96, 402, 342, 362, 365, 367, 403, 404, 115, 116, 336, 341, 363, 370, 396, 371, 397, 372, 398, 337, 339, 399, 359, 349, 350, 421, 423, 356, 357, 435, 412, 413, 414, 415, 389, 415, 416, 417, 418, 391, 418, 419, 420, 403, 393, 102, 354, 433, 434, 348, 429, 430, 432, 368, 400, 427] (by decide +kernel)
theorem aw_C : ∀ w ∈ vx_atM "java/lang/ClassCastException" aTh, w ∈ lw_tbl := aw_at [96, 402, 342, 362, 365, 367, 403, 404, 115, 116, 336, 341, 363, 370, 396, 371, 397, 372, 398, 337, 339, 399, 334, 335, 369, 399, 438, 439, 440, 328, 390, 328, 329, 330, 331, 392, 331, 332, 333, 334, 394, 101, 405, 406, 407, 409, 408, 410, 103, 437, 448, 449, 345, 443, 444, 446, 442, 368, 400, 441] (by decide +kernel)
theorem aw_S : ∀ w ∈ vx_atM "java/lang/NegativeArraySizeException" aTh, w ∈ lw_tbl := aw_at [96, 402, 342, 362, 365, 367, 403, 404, 115, 116, 336, 341, 363, 370, 396, 371, 397, 372, 398, 337, 339, 399, 334, 335, 369, 399, 902, 903, 904, 328, 390, 328, 329, 330, 331, 392, 331, 332, 333, 334, 394, 101, 405, 406, 407, 409, 408, 410, 108, 901, 912, 913, 347, 907, 908, 910, 906, 368, 400, 905] (by decide +kernel)
def aw_ok (w : Cond) : Bool := (goodWord w || aEw w) && vx_ot w
theorem ag_I : (vx_at0 "DeadListPool" 55 "java/lang/IndexOutOfBoundsException" aTh).all aw_ok = true := by decide +kernel
theorem ag_N : (vx_atN 8).all aw_ok = true := by decide +kernel
theorem ag_C : (vx_atM "java/lang/ClassCastException" aTh).all aw_ok = true := by decide +kernel
theorem ag_S : (vx_atM "java/lang/NegativeArraySizeException" aTh).all aw_ok = true := by decide +kernel
theorem aEw_tables {w : Cond} (h : aEw w = true) : w.onTables = true := by
  cases w <;> first | rfl | (exact absurd h (by intro z; cases z))
theorem aw_hold {s : State} {args : Array Value} {L : List Cond} (hts : ∀ w ∈ lw_all, w.before args s = true) (hE : aEnv s) (h1 : ∀ w ∈ L, w ∈ lw_tbl) (h2 : L.all aw_ok = true) : ∀ w ∈ L, w.before args s = true := by
  intro w hw
  have h3 := List.all_eq_true.mp h2 w hw
  simp only [aw_ok, Bool.and_eq_true, Bool.or_eq_true] at h3
  rcases h3.1 with h | h
  · exact hts w (lw_g (h1 w hw) h)
  · exact va_Nw.use (aEw_tables h) (hE.1 w (h1 w hw) h)
theorem aw_ot {L : List Cond} (h2 : L.all aw_ok = true) : ∀ w ∈ L, vx_ot w = true := by
  intro w hw
  have h3 := List.all_eq_true.mp h2 w hw
  simp only [aw_ok, Bool.and_eq_true] at h3
  exact h3.2
/-- the text of a cast that fails is short: its classes are found by their names, so their loader is the bootstrap's, and the modules are right -/
theorem a_home {vm : Vm} {k : Class} (hl : k.loader = none) (hp : packageOf k.name = "") (hM : ∀ md ∈ vm.modules, (md.loader.isSome || md.name == "java.base" || !(castPackages_1.any fun q => md.packages.contains q)) = true) : (vm.home k).toList.length ≤ 38 := by
  have e : vm.home k = (match vm.moduleOf k with | some m => "module " ++ m.name | none => "unnamed module") ++ " of loader " ++ vm.loaderName k.loader := rfl
  rw [e, hl]
  have h2 : ∀ m, vm.moduleOf k = some m → m.name = "java.base" := by
    intro m hm
    unfold Vm.moduleOf at hm
    split at hm
    · have := List.find?_some hm
      simpa using this
    · have h3 := List.find?_some hm
      have h4 := List.mem_of_find?_eq_some hm
      have h5 := hM m h4
      simp only [Bool.and_eq_true, beq_iff_eq] at h3
      rw [hl] at h3
      rw [hp] at h3
      rw [h3.1] at h5
      simp only [Option.isSome_none, Bool.false_or, Bool.or_eq_true, beq_iff_eq] at h5
      rcases h5 with h5 | h5
      · exact h5
      · exfalso
        have h6 : (castPackages_1.any fun q => m.packages.contains q) = true := List.any_eq_true.mpr ⟨"", by decide, h3.2⟩
        rw [h6] at h5
        cases h5
  have h6 : (vm.loaderName none).toList.length = 11 := by
    show ("'bootstrap'" : String).toList.length = 11
    decide
  cases hm : vm.moduleOf k with
  | none =>
    show ("unnamed module" ++ " of loader " ++ vm.loaderName none).toList.length ≤ 38
    simp only [String.toList_append, List.length_append, h6]
    have a1 : ("unnamed module" : String).toList.length = 14 := by decide
    have a2 : (" of loader " : String).toList.length = 11 := by decide
    omega
  | some m =>
    show (("module " ++ m.name) ++ " of loader " ++ vm.loaderName none).toList.length ≤ 38
    rw [h2 m hm]
    simp only [String.toList_append, List.length_append, h6]
    have a1 : ("module " : String).toList.length = 7 := by decide
    have a2 : (" of loader " : String).toList.length = 11 := by decide
    have a3 : ("java.base" : String).toList.length = 9 := by decide
    omega
theorem a_cce {vm : Vm} {ks kt : Class} {A B : String} (h1 : ks.shown = dotted A) (h2 : kt.shown = dotted B) (h3 : (vm.home ks).toList.length ≤ 38) (h4 : (vm.home kt).toList.length ≤ 38) (hA : (dotted A).toList.length ≤ 22) (hB : (dotted B).toList.length ≤ 22) : (stringBytes (stringToUtf16 (checkcast.message vm ks kt))).size ≤ 940 ∧ (checkcast.message vm ks kt == notModelled) = false := by
  have e : checkcast.message vm ks kt = toString "class " ++ toString ks.shown ++ toString " cannot be cast to class " ++ toString kt.shown ++ toString " (" ++ toString (vm.homes ks kt) ++ toString ")" := rfl
  have hh : (vm.homes ks kt).toList.length ≤ 140 := by
    unfold Vm.homes
    split
    · show (toString ks.shown ++ toString " and " ++ toString kt.shown ++ toString " are in " ++ toString (vm.home ks)).toList.length ≤ 140
      rw [h1, h2]
      simp only [String.toList_append, List.length_append]
      have a1 : (toString " and ").toList.length = 5 := by decide
      have a2 : (toString " are in ").toList.length = 8 := by decide
      have a3 : (toString (dotted A)).toList.length ≤ 22 := hA
      have a4 : (toString (dotted B)).toList.length ≤ 22 := hB
      have a5 : (toString (vm.home ks)).toList.length ≤ 38 := h3
      omega
    · show (toString ks.shown ++ toString " is in " ++ toString (vm.home ks) ++ toString "; " ++ toString kt.shown ++ toString " is in " ++ toString (vm.home kt)).toList.length ≤ 140
      rw [h1, h2]
      simp only [String.toList_append, List.length_append]
      have a1 : (toString " is in ").toList.length = 7 := by decide
      have a2 : (toString "; ").toList.length = 2 := by decide
      have a3 : (toString (dotted A)).toList.length ≤ 22 := hA
      have a4 : (toString (dotted B)).toList.length ≤ 22 := hB
      have a5 : (toString (vm.home ks)).toList.length ≤ 38 := h3
      have a6 : (toString (vm.home kt)).toList.length ≤ 38 := h4
      omega
  constructor
  · have b1 := stringBytes_size_le (stringToUtf16 (checkcast.message vm ks kt))
    have b2 := utf16_size_le (checkcast.message vm ks kt)
    have b3 : (checkcast.message vm ks kt).toList.length ≤ 235 := by
      rw [e, h1, h2]
      simp only [String.toList_append, List.length_append]
      have a1 : (toString "class ").toList.length = 6 := by decide
      have a2 : (toString " cannot be cast to class ").toList.length = 25 := by decide
      have a3 : (toString (dotted A)).toList.length ≤ 22 := hA
      have a4 : (toString (dotted B)).toList.length ≤ 22 := hB
      have a5 : (toString " (").toList.length = 2 := by decide
      have a6 : (toString ")").toList.length = 1 := by decide
      have a7 : (toString (vm.homes ks kt)).toList.length ≤ 140 := hh
      omega
    omega
  · rw [beq_eq_false_iff_ne]
    intro h
    have h2 := congrArg String.toList h
    rw [e] at h2
    have h4 : notModelled.toList = '\u0000' :: " a message that is not modelled".toList := by decide
    rw [h4] at h2
    simp only [String.toList_append] at h2
    have h5 : (toString "class ").toList = 'c' :: "lass ".toList := by decide
    rw [h5] at h2
    simp at h2
section WP5
variable {K : aK} {rc rs : Nat} {QR : Option aV → aW → Prop} {QX : String → aW → Prop} {pc : Nat} {ls : List (Nat × aV)} {st : List aV} {w : aW}
theorem a_cat10 {d : Nat} {rest : List aV} (h : (rest.map vcat).sum ≤ 8) : ((rest.map vv).map fun v => v.category).sum + 10240 ≤ 10400 + 60 * d := by
  have := a_cats h
  omega
/-- 'throw new IndexOutOfBoundsException()' -/
theorem wp_throwI {ik : Nat} (hown : (kY K).cls = "DeadListPool") (hh : kH K = []) (d0 : decode (kC K) pc = .ok (.new 53, 3)) (d3 : decode (kC K) (pc + 3) = .ok (.dup, 1)) (d4 : decode (kC K) (pc + 4) = .ok (.invokespecial 55, 3)) (d7 : decode (kC K) (pc + 7) = .ok (.athrow, 1)) (hk : Cond.classLink "DeadListPool" 53 "java/lang/IndexOutOfBoundsException" ∈ lw_all) (hi : Cond.initialized "java/lang/IndexOutOfBoundsException" ∈ lw_all)
    (h1 : 1 ≤ rc) (h2 : 6 ≤ rs) (hr : (st.map vcat).sum ≤ 8) (h : QX "java/lang/IndexOutOfBoundsException" w) : wp K rc rs QR QX pc ls st w := by
  intro p l e s m args below meth c G ws0 sz mc ms C H locs ws lsA cells slots hL hP hD hS hl hc hs
  have hts := C.2.2.2.1
  have ho := C.2.2.2.2.1
  rw [hown] at ho
  refine vx_throw0 (own := "DeadListPool") (cls := "java/lang/IndexOutOfBoundsException") (names := aTh) (ik := 53) (ic := 55) (A := va_A ws0 sz) C.1 C.2.1 C.2.2.2.2.2.2.2.1 ho (by decide +kernel) (by decide +kernel) (hts _ hk) (hts _ hi) (aw_hold hts C.2.2.2.2.2.2.2.2.2.2.1 aw_I ag_I) ?_ C.2.2.2.2.2.2.2.2.2.2.2.2.2.1 C.2.2.2.2.2.2.2.2.2.2.2.2.2.2 hS (hl.1.trans C.2.2.2.2.2.2.1.symm) d0 d3 d4 d7 ?_ ?_ ?_ (by show cells + 1 ≤ mc; omega) (by show slots + 6 ≤ ms; omega) C.2.2.2.2.2.1 ?_ hS.2.2 (by omega) (by omega)
  · intro w hw
    rcases List.mem_cons.mp hw with rfl | hw
    · decide +kernel
    · rcases List.mem_cons.mp hw with rfl | hw
      · decide +kernel
      · exact aw_ot ag_I w hw
  · intro x hx
    rw [C.2.2.2.2.2.2.2.2.1, hh] at hx
    cases hx
  · show 2 + 3 < kD K + 10
    omega
  · have := a_cats hr
    show ((st.map vv).map fun v => v.category).sum + (13 * (2 + 1) + 42) ≤ 10400 + 60 * kD K
    omega
  · intro t ht hz hq
    refine ⟨w, ws, h, hL, hP.kept (fun k q hk => hq q.1 (hP k q hk).lt), hD, Nat.le_trans hS.1 hz, fun q h1 h2 => ?_⟩
    rw [hq q (Nat.lt_of_lt_of_le h1 hS.1)]
    exact hS.2.1 q h1 h2
/-- the machine's own NullPointerException -/
theorem a_npe {p : Program} {l : Launch} {e : Env} {s : State} {m : MethodId} {args : Array Value} {below : List Frame} {meth : Method} {c : Code} {G : aG} {ws0 : va_W} {sz mc ms : Nat} (C : aCtx K G p l s m args meth c ws0 sz) {H : Heap} {locs : List Loc} {ws : va_W} {lsA : Array Slot} {cells slots : Nat}
    (hL : LW G w ws) (hP : va_P G.1 acl ws H) (hD : va_D (va_A ws0 sz) ws) (hS : va_S (va_A ws0 sz) s.heap H locs) (hl : lv_has lsA (kL K) (lvv ls)) {rc' rs' : Nat} (h1 : rc' + 1 ≤ rc) (h2 : rs' + 8 ≤ rs) (hc : cells + rc ≤ mc) (hs : slots + rs ≤ ms) (hr : (st.map vcat).sum ≤ 8) (k : wpx K rc' rs' QR QX pc ls "java/lang/NullPointerException" w) :
    vx_NoteN p l e (arm (kD K) mc ms) s m args below meth c H locs cells slots (vx_MQ below (aQc G QR ws0 sz) (aXC G QX ws0 sz) args s mc ms (va_A ws0 sz)) (F0 m pc lsA (st.map vv)) := by
  have hts := C.2.2.2.1
  refine vx_npe (nb := 8) (A := va_A ws0 sz) C.1 C.2.2.2.2.2.2.2.1 (aw_hold hts C.2.2.2.2.2.2.2.2.2.2.1 aw_N ag_N) (aw_ot ag_N) C.2.2.2.2.2.2.2.2.2.2.2.2.2.1 C.2.2.2.2.2.2.2.2.2.2.2.2.2.2 hS (hl.1.trans C.2.2.2.2.2.2.1.symm) (by show 7 < kD K + 10; omega) (a_cat10 hr) (by show cells + 1 ≤ mc; omega) (by show slots + 8 ≤ ms; omega) C.2.2.2.2.2.1 ?_
  intro H1 q9 ce hz hq hS1 hce hcv hcl
  exact k p l e s m args below meth c G ws0 sz mc ms C H1 locs ws lsA (cells + 1) (slots + 8) hL (hP.kept (fun k q hk => hq q.1 (hP k q hk).lt)) hD hS1 hl (by omega) (by omega) ce q9 _ hce hcv hcl
theorem wp_getfNull {idx ci k rc' rs' : Nat} (hd : decode (kC K) pc = .ok (.getfield idx, 3)) (hf : aFld (kY K).cls idx ci k) (h1 : rc' + 1 ≤ rc) (h2 : rs' + 8 ≤ rs) (hr : (st.map vcat).sum ≤ 8) (k : wpx K rc' rs' QR QX pc ls "java/lang/NullPointerException" w) : wp K rc rs QR QX pc ls (vR none :: st) w := by
  obtain ⟨r, ref, f1, f2, f3, f4, f5⟩ := hf
  intro p l e s m args below meth c G ws0 sz mc ms C H locs ws lsA cells slots hL hP hD hS hl hc hs
  exact vx_getfN (D := G.1) (cl := acl) (tys := atys G) (C := r.1) (T := r.2.1) (N := r.2.2) C.1 C.2.1 C.2.2.2.1 f3 C.2.2.2.2.1 C.2.2.2.2.2.2.2.2.2.1 f1 _ f2 (C.2.2.2.1 _ f4) (a_same C.2.2.2.1 f5) hd (a_npe C hL hP hD hS hl h1 h2 hc hs hr k)
theorem wp_getfnNull {idx ci k rc' rs' : Nat} (hd : decode (kC K) pc = .ok (.getfield idx, 3)) (hf : aFldN (kY K).cls idx ci k) (h1 : rc' + 1 ≤ rc) (h2 : rs' + 8 ≤ rs) (hr : (st.map vcat).sum ≤ 8) (k : wpx K rc' rs' QR QX pc ls "java/lang/NullPointerException" w) : wp K rc rs QR QX pc ls (vR none :: st) w := by
  obtain ⟨r, ref, host, f1, f2, f3, f4, f5⟩ := hf
  intro p l e s m args below meth c G ws0 sz mc ms C H locs ws lsA cells slots hL hP hD hS hl hc hs
  exact vx_getfNN (D := G.1) (cl := acl) (tys := atys G) (C := r.1) (T := r.2.1) (N := r.2.2) C.1 C.2.1 C.2.2.2.1 f3 C.2.2.2.2.1 C.2.2.2.2.2.2.2.2.2.1 f1 _ f2 (va_Nw.use rfl (C.2.2.2.2.2.2.2.2.2.2.1.1 _ f4 rfl)) (a_same C.2.2.2.1 (Or.inl f5)) hd (a_npe C hL hP hD hS hl h1 h2 hc hs hr k)
theorem wp_alenNull {rc' rs' : Nat} (hd : decode (kC K) pc = .ok (.arraylength, 1)) (h1 : rc' + 1 ≤ rc) (h2 : rs' + 8 ≤ rs) (hr : (st.map vcat).sum ≤ 8) (k : wpx K rc' rs' QR QX pc ls "java/lang/NullPointerException" w) : wp K rc rs QR QX pc ls (vR none :: st) w := by
  intro p l e s m args below meth c G ws0 sz mc ms C H locs ws lsA cells slots hL hP hD hS hl hc hs
  exact vx_arraylengthN C.1 C.2.1 hd (a_npe C hL hP hD hS hl h1 h2 hc hs hr k)
theorem wp_invokeNull {idx rc' rs' L : Nat} {y : MethodName} {b : ByteArray} {r : Option FieldType} {C0 : String} {As rest : List aV} (hd : decode (kC K) pc = .ok (.invokevirtual idx, 3)) (g1 : Cond.methodLink (kY K).cls idx y ∈ lw_all) (g2 : Cond.instanceMethod y ∈ lw_all) (g3 : Cond.code y b L r ∈ lw_all) (g4 : Cond.selects C0 y y ∈ lw_all) (g5 : y.cls ≠ "java/lang/invoke/MethodHandle" ∧ y.cls ≠ "java/lang/invoke/VarHandle") (hn : (parseMethodDescriptor y.desc).map (fun d => d.parameters.length) = some As.length) (hst : st = As.reverse ++ vR none :: rest)
    (h1 : rc' + 1 ≤ rc) (h2 : rs' + 8 ≤ rs) (hr : (rest.map vcat).sum ≤ 8) (k : wpx K rc' rs' QR QX pc ls "java/lang/NullPointerException" w) : wp K rc rs QR QX pc ls st w := by
  intro p l e s m args below meth c G ws0 sz mc ms C H locs ws lsA cells slots hL hP hD hS hl hc hs
  have hts := C.2.2.2.1
  exact vx_invokeN (As := As.map vv) (rest := rest.map vv) C.1 C.2.1 C.2.2.2.2.1 (hts _ g1) (hts _ g2) (hts _ g3) (hts _ g4) g5 (by rw [hn]; simp) hd (a_npe (st := rest) C hL hP hD hS hl h1 h2 hc hs hr k) (by rw [hst]; simp [vv, va_rf])
/-- the machine's own throw with a text -/
theorem a_vm {p : Program} {l : Launch} {e : Env} {s : State} {m : MethodId} {args : Array Value} {below : List Frame} {meth : Method} {c : Code} {G : aG} {ws0 : va_W} {sz mc ms : Nat} (C : aCtx K G p l s m args meth c ws0 sz) {H : Heap} {locs : List Loc} {ws : va_W} {lsA : Array Slot} {cells slots : Nat} {E text : String}
    (hcls : Bundle.fit E = true) (hsoe : (E == "java/lang/StackOverflowError") = false) (hoom : (E == "java/lang/OutOfMemoryError") = false) (hw1 : ∀ w ∈ vx_atM E aTh, w ∈ lw_tbl) (hw2 : (vx_atM E aTh).all aw_ok = true) (htx : (text == notModelled) = false) (hnb : (stringBytes (stringToUtf16 text)).size ≤ 940)
    (hL : LW G w ws) (hP : va_P G.1 acl ws H) (hD : va_D (va_A ws0 sz) ws) (hS : va_S (va_A ws0 sz) s.heap H locs) (hl : lv_has lsA (kL K) (lvv ls)) {rc' rs' : Nat} (h1 : rc' + 3 ≤ rc) (h2 : rs' + 950 ≤ rs) (hc : cells + rc ≤ mc) (hs : slots + rs ≤ ms) (hr : (st.map vcat).sum ≤ 8) (k : wpx K rc' rs' QR QX pc ls E w) :
    vx_Note p l e (arm (kD K) mc ms) s m args below meth c H locs cells slots (vx_MQ below (aQc G QR ws0 sz) (aXC G QX ws0 sz) args s mc ms (va_A ws0 sz)) (F0 m pc lsA (st.map vv)) E text := by
  have hts := C.2.2.2.1
  refine vx_vm (names := aTh) (nb := 940) (A := va_A ws0 sz) C.1 C.2.2.2.2.2.2.2.1 hcls (by decide +kernel) hsoe hoom (aw_hold hts C.2.2.2.2.2.2.2.2.2.2.1 hw1 hw2) (aw_ot hw2) C.2.2.2.2.2.2.2.2.2.2.2.2.2.1 C.2.2.2.2.2.2.2.2.2.2.2.2.2.2 hS (hl.1.trans C.2.2.2.2.2.2.1.symm) htx hnb (by decide) (by show 2 + 4 < kD K + 10; omega) (a_cat10 hr) (by decide) (by show cells + 3 ≤ mc; omega) (by show slots + (940 + 10) ≤ ms; omega) C.2.2.2.2.2.1 ?_
  intro H1 q9 ce hz hq hS1 hce hcv hcl
  exact k p l e s m args below meth c G ws0 sz mc ms C H1 locs ws lsA (cells + 3) (slots + (940 + 10)) hL (hP.kept (fun k q hk => hq q.1 (hP k q hk).lt)) hD hS1 hl (by omega) (by omega) ce q9 _ hce hcv hcl
theorem wp_newZ {at0 : ArrayType} {x : Int32} {rc' rs' : Nat} (hd : decode (kC K) pc = .ok (.newarray at0, 2)) (hx : x < 0) (h1 : rc' + 3 ≤ rc) (h2 : rs' + 950 ≤ rs) (hr : (st.map vcat).sum ≤ 8) (k : wpx K rc' rs' QR QX pc ls "java/lang/NegativeArraySizeException" w) : wp K rc rs QR QX pc ls (vI x :: st) w := by
  intro p l e s m args below meth c G ws0 sz mc ms C H locs ws lsA cells slots hL hP hD hS hl hc hs
  refine vx_newarrayZ C.1 C.2.1 hx hd (fun tx ht => ?_)
  subst ht
  exact a_vm C (by decide +kernel) (by decide +kernel) (by decide +kernel) aw_S ag_S (negative_text_modelled hx) (Nat.le_trans (negative_text_bytes x) (by decide)) hL hP hD hS hl h1 h2 hc hs hr k
/-- a cast that fails: the machine notes ClassCastException, with its text -/
theorem a_castNo {p : Program} {l : Launch} {e : Env} {R : Room} {s : State} {m : MethodId} {args : Array Value} {below : List Frame} {meth : Method} {c : Code} {T : State} {locs : List Loc} {cells slots : Nat} (X : Stand p l e R s m args below meth c T locs cells slots) (hexec : p.tables.exec = Jvm.exec)
    {own name : String} {index : Nat} (hown : s.vm.findClass own = some m.cls) (hlink : (Cond.classLink own index name).before args s = true)
    {a : Addr} {cell : Cell} {cT : ClassId} {ks : Class} (hcell : T.heap[a]? = some cell) (hobj : cell.vm.isStatics = false) (hks : s.vm.classes[cell.cls]? = some ks) (hcT : s.vm.findClass name = some cT) (hasg : s.vm.assignable cell.cls cT = false)
    {g : JFrame} (hg : g.method = m) {rest : List Value} (hstack : g.stack = .ref a :: rest) (hdg : decode c.code g.pc = .ok (.checkcast index, 3)) :
    ∃ (vm' : Vm) (ks' kt kt' : Class), s.WarmedH vm' ∧ ks'.name = ks.name ∧ ks'.hidden = ks.hidden ∧ ks'.loader = ks.loader ∧ s.vm.classes[cT]? = some kt ∧ kt'.name = kt.name ∧ kt'.hidden = kt.hidden ∧ kt'.loader = kt.loader ∧ Stand p l e R s m args below meth c (T.setVm vm') locs cells slots ∧
      ∀ target, Steps p.tables e below (((T.setVm vm').setTop g).pushFrame (.throwNew "java/lang/ClassCastException" (some (checkcast.message vm' ks' kt')) none)) target → Steps p.tables e below (T.setTop g) target := by
  have hpl : e.platform.magicAccessors = ({} : Platform).magicAccessors := by rw [X.admits.platform]
  obtain ⟨c', hc', hcl⟩ := Cond.classLink_spec hown hlink e.platform hpl
  cases hcT.symm.trans hc'
  obtain ⟨dk, _, _, kt, hd, _, _, _, _, hkt, _, hopen⟩ := hcl.here
  have hcl₀ := X.warmed.classLinks hcl
  have hW' : s.WarmedH (T.vm.noted m.cls index (.cls cT)) := X.warmed.noted hd hopen (State.rightAt_cls hcl)
  obtain ⟨ks', hks', e1⟩ := hW'.alike.2.2 _ _ hks
  obtain ⟨kt', hkt', e2⟩ := hW'.alike.2.2 _ _ hkt
  refine ⟨_, ks', kt, kt', hW', by rw [e1], by rw [e1], by rw [e1], hkt, by rw [e2], by rw [e2], by rw [e2], X.noted hW', fun target hrest => ?_⟩
  subst hg
  jvm_step X.here [hexec, hdg, checkcast.wp_cold (e := e) (s := T) (f := g) X.here.top hstack (resolveClass_links e.toSetting hcl₀) hcl₀.ready,
    checkcast.wp_ready (e := e) (s := T.setVm (T.vm.noted g.method.cls index (.cls cT))) (f := g) X.here.top hcl₀.ready hstack]
  refine ⟨cell, hcell, VmData.noStatics_of hobj, ks', hks', kt', hkt', ?_⟩
  have h1 : (T.vm.noted g.method.cls index (Resolved.cls cT)).assignable cell.cls cT = false := by rw [hW'.alike.assignable]; exact hasg
  simp only [h1]
  exact hrest
theorem a_found {vm : Vm} {name : String} {c : ClassId} {k : Class} (h : vm.findClass name = some c) (hk : vm.classes[c]? = some k) : k.name = name ∧ k.hidden = none ∧ k.loader = none := by
  obtain ⟨hlt, hp, _⟩ := Array.findIdx?_eq_some_iff_getElem.mp h
  have : k = vm.classes[c] := by
    rw [Array.getElem?_eq_getElem hlt] at hk
    exact (Option.some.inj hk).symm
  subst this
  simp only [Bool.and_eq_true, beq_iff_eq, Option.isNone_iff_eq_none] at hp
  exact ⟨hp.1.1.1, hp.1.1.2, hp.2⟩
theorem a_shown {k : Class} {nm : String} (h1 : k.name = nm) (h2 : k.hidden = none) : k.shown = dotted nm := by
  unfold Class.shown
  rw [h2, h1]
theorem wp_castX {idx a rc' rs' : Nat} {c0 : aCell} {nm : String} (hd : decode (kC K) pc = .ok (.checkcast idx, 3)) (hl0 : Cond.classLink (kY K).cls idx nm ∈ lw_all) (hw : w a = some c0) (hk : aKind c0) (hc : (aName c0, nm) ∈ aNC) (hA : packageOf (aName c0) = "" ∧ (dotted (aName c0)).toList.length ≤ 22) (hB : packageOf nm = "" ∧ (dotted nm).toList.length ≤ 22)
    (h1 : rc' + 3 ≤ rc) (h2 : rs' + 950 ≤ rs) (hr : ((vR (some a) :: st).map vcat).sum ≤ 8) (k : wpx K rc' rs' QR QX pc ls "java/lang/ClassCastException" w) : wp K rc rs QR QX pc ls (vR (some a) :: st) w := by
  intro p l e s m args below meth c G ws0 sz mc ms C H locs ws lsA cells slots hL hP hD hS hl hc2 hs
  have hts := C.2.2.2.1
  obtain ⟨cell, r1, r2, r3⟩ := a_recv C.2.2.2.2.2.2.2.2.2.1 hP hL hw hk
  obtain ⟨k0, t0, f1, f2, f3⟩ := C.2.2.2.2.2.2.2.2.2.2.1.2.1 _ hc
  cases f1.symm.trans r3
  obtain ⟨ks, hks, -⟩ := Vm.findClass_spec f1
  intro T hT X
  obtain ⟨vm', ks', kt, kt', hW', n1, n2, n3, hkt, n4, n5, n6, X', step⟩ := a_castNo X C.1 C.2.2.2.2.1 (hts _ hl0) (by rw [hT]; exact r1) r2 hks f2 f3 (g := F0 m pc lsA ((vR (some a) :: st).map vv)) rfl rfl (by rw [C.2.1]; exact hd)
  obtain ⟨b1, b2, b3⟩ := a_found f1 hks
  obtain ⟨b4, b5, b6⟩ := a_found f2 hkt
  have hmods : vm'.modules = s.vm.modules := by rw [hW'.alike.1]
  have hM := (C.2.2.2.2.2.2.2.2.2.2.1.2.2.2)
  have hM' : ∀ md ∈ vm'.modules, (md.loader.isSome || md.name == "java.base" || !(castPackages_1.any fun q => md.packages.contains q)) = true := by rw [hmods]; exact hM
  have g1 := a_home (vm := vm') (n3.trans b3) (by rw [n1, b1]; exact hA.1) hM'
  have g2 := a_home (vm := vm') (n6.trans b6) (by rw [n4, b4]; exact hB.1) hM'
  obtain ⟨q1, q2⟩ := a_cce (vm := vm') (a_shown (n1.trans b1) (n2.trans b2)) (a_shown (n4.trans b4) (n5.trans b5)) g1 g2 hA.2 hB.2
  obtain ⟨t, st9, hq⟩ := a_vm C (E := "java/lang/ClassCastException") (by decide +kernel) (by decide +kernel) (by decide +kernel) aw_C ag_C q2 q1 hL hP hD hS hl h1 h2 hc2 hs hr k (T.setVm vm') hT X'
  exact ⟨t, step t st9, hq⟩
end WP5
