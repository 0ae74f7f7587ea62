/-! ===== THE WP LAYER 4: what holds all through; calls; catching ===== -/
theorem aEnv.warm {s U : State} (hW : s.WarmedH U.vm) (h : aEnv s) : aEnv U := by
  obtain ⟨h1, h2, h3, h4⟩ := h
  refine ⟨fun w hw hg => ?_, fun q hq => va_Nc.moved hW.alike (h2 q hq), fun t ht => ?_, ?_⟩
  · have h0 := h1 w hw hg
    cases w with
    | fieldLinkNest a i b n d hst => exact va_Nw.warmF hW h0
    | methodLinkNest a i x hst => exact va_Nw.warmM hW h0
    | castable C T => exact va_Nw.warmC hW h0
    | declares x => exact va_Nw.warmD hW h0
    | _ => exact absurd hg (by intro h; cases h)
  · have e := Cond.arrayOver_setVmC (args := #[]) hW.alike t
    have e2 : (Cond.arrayOver t).before #[] (s.setVm U.vm) = (Cond.arrayOver t).before #[] U := rfl
    rw [← e2, e]
    exact h3 t ht
  · have e : U.vm.modules = s.vm.modules := by rw [hW.alike.1]
    unfold aMR
    rw [e]
    exact h4
theorem aEnv.same {s U : State} (h0 : s.vm = U.vm) (h : aEnv s) : aEnv U := by
  refine aEnv.warm (s := s) (U := U) ?_ h
  rw [← h0]
  exact State.WarmedH.refl s
theorem aU.moved {A : Nat → Prop} {u U : State} {H : Heap} (hvm : u.vm.Alike U.vm) (h : aU A u H) : aU A U H := ⟨vx_Zq.moved hvm h.1, vx_Zq.moved hvm h.2⟩
theorem aU.kept {A : Nat → Prop} {U : State} {H H1 : Heap} (h : aU A U H) (hq : ∀ a : Nat, a < H.size → ¬ A a → H1[a]? = H[a]?) : aU A U H1 := ⟨h.1.kept hq, h.2.kept hq⟩
theorem aU.narrow {A B : Nat → Prop} {U : State} {H : Heap} (h : aU A U H) (hAB : ∀ q, B q → A q) : aU B U H := ⟨h.1.narrow hAB, h.2.narrow hAB⟩
theorem aPc_blind {G : aG} {av : List aV} {ws : va_W} {sz : Nat} : FrameBlind (aPc G av ws sz) := by
  intro a U g mk q
  obtain ⟨q0, q1, qP, qK, qD, qE, qU⟩ := q
  exact ⟨q0, q1, qP, va_K.moved (u := U) (U := U.calling g mk a) (Vm.Alike.refl U.vm) qK, qD, aEnv.same (s := U) (U := U.calling g mk a) rfl qE, aU.moved (u := U) (U := U.calling g mk a) (Vm.Alike.refl U.vm) qU⟩
/-- a callee's cells are the caller's, or new -/
theorem a_free {ws0 ws : va_W} {sz : Nat} {s : State} {H : Heap} {locs : List Loc} (hsz : s.heap.size = sz) (hD : va_D (va_A ws0 sz) ws) (hS : va_S (va_A ws0 sz) s.heap H locs) : ∀ q, va_A ws H.size q → va_A ws0 sz q := by
  intro q h
  rcases h with ⟨k, e, h⟩ | h
  · exact hD.2 k (q, e) h
  · exact Or.inr (by rw [← hsz]; exact Nat.le_trans hS.1 h)
theorem aPc_ok {K : aK} {G : aG} {p : Program} {l : Launch} {s : State} {m : MethodId} {args : Array Value} {meth : Method} {c : Code} {ws0 : va_W} {sz : Nat} (C : aCtx K G p l s m args meth c ws0 sz) {H : Heap} {locs : List Loc} {ws : va_W}
    (hP : va_P G.1 acl ws H) (hD : va_D (va_A ws0 sz) ws) (hS : va_S (va_A ws0 sz) s.heap H locs) {av : List aV} : ∀ U : State, U.heap = H → s.WarmedH U.vm → aPc G av ws H.size (av.map vv).toArray U := by
  intro U hU hW
  refine ⟨rfl, by rw [hU], by rw [hU]; exact hP, va_K.moved hW.alike C.2.2.2.2.2.2.2.2.2.1, hD.weaken (fun _ _ _ _ => trivial), C.2.2.2.2.2.2.2.2.2.2.1.warm hW, ?_⟩
  rw [hU]
  have h1 := C.2.2.2.2.2.2.2.2.2.2.2.2.2
  exact ((h1.kept (H1 := H) hS.2.1).narrow (a_free C.2.2.2.2.2.2.2.2.2.2.2.1 hD hS)).moved hW.alike
/-- a call's run, for whatever contract the callee has -/
def aRun (K K' : aK) (pc : Nat) (av st rest : List aV) (w : aW) : Prop :=
  ∀ (p : Program) (l : Launch) (e : Env) (s : State) (m : MethodId) (args : Array Value) (below : List Frame) (meth : Method) (c : Code) (G : aG) (ws0 : va_W) (sz mc ms : Nat), aCtx K G p l s m args meth c ws0 sz →
  ∀ (H : Heap) (locs : List Loc) (ws : va_W) (lsA : Array Slot) (cells slots : Nat), LW G w ws → va_P G.1 acl ws H → va_D (va_A ws0 sz) ws → va_S (va_A ws0 sz) s.heap H locs → lsA.size = kL K →
  ∀ (mc' ms' : Nat) (Qc : Array Value → State → Outcome → State → Prop) (XC : String → State → State → Prop), vx_Met l (kY K') (aws K') (arm (kD K') mc' ms') (aPc G av ws H.size) Qc XC mc' ms' (va_A ws H.size) →
    cells + mc' ≤ mc → slots + ms' ≤ ms → vx_Run p l e (arm (kD K) mc ms) s m args below meth c H locs cells slots mc' ms' (F0 m pc lsA (st.map vv)) (rest.map vv) (Qc (av.map vv).toArray) XC (va_A ws H.size)
section WP4
variable {K : aK} {rc rs : Nat} {QR : Option aV → aW → Prop} {QX : String → aW → Prop} {pc : Nat} {ls : List (Nat × aV)} {st : List aV} {w : aW}
/-- a call by contract: what comes back goes on the stack; what is thrown is thrown here -/
theorem wp_call {K' : aK} {av rest : List aV} {mc' ms' rc' rs' n : Nat} {QR' : Option aV → aW → Prop} {QX' : String → aW → Prop} (hr : aRun K K' pc av st rest w) (hn : pc + 3 = n) (h1 : mc' + rc' ≤ rc) (h2 : ms' + rs' ≤ rs)
    (hk : ∀ v w', QR' v w' → wp K rc' rs' QR QX n ls (v.toList ++ rest) w') (hx : ∀ E w', QX' E w' → wpx K rc' rs' QR QX pc ls E w') (hc : ct K' mc' ms' av w QR' QX') : wp K rc rs QR QX pc ls st w := by
  subst hn
  intro p l e s m args below meth c G ws0 sz mc ms C H locs ws lsA cells slots hL hP hD hS hl hcs hss
  have hM := hc l G H.size ws C.2.2.2.2.2.2.2.1 hL
  have hfree := a_free C.2.2.2.2.2.2.2.2.2.2.2.1 hD hS
  have run := hr p l e s m args below meth c G ws0 sz mc ms C H locs ws lsA cells slots hL hP hD hS hl.1 mc' ms' _ _ hM (by omega) (by omega)
  intro T hT X
  rcases run T hT X with ⟨v0, st₀, t, T', L, h0, X', hLo, e1, e2, ⟨v, w', ws', hv, hq, hL', hP', hD', hz, hk9⟩, stp⟩ | ⟨q, st₀, t, T', L, E, ce, h0, X', hLo, e1, e2, ⟨w', ws', hq, hL', hP', hD', hz, hk9⟩, hce, hcv, hcl, stp⟩
  · cases hv
    rw [h0] at hz hk9
    have hS' : va_S (va_A ws0 sz) s.heap T'.heap (locs ++ L) := ⟨Nat.le_trans hS.1 (by rw [e1]; exact hz), fun q h1 h2 => by rw [e1, hk9 q (Nat.lt_of_lt_of_le h1 hS.1) (fun z => h2 (hfree q z))]; exact hS.2.1 q h1 h2, fun q hq => by
      rcases List.mem_append.mp hq with h | h
      · exact hS.2.2 q h
      · exact hfree _ (hLo q h)⟩
    have hP2 : va_P G.1 acl ws' T'.heap := by rw [e1]; exact hP'
    have hD2 : va_D (va_A ws0 sz) ws' := hD'.weaken (fun _ _ _ h => hfree _ h)
    obtain ⟨t2, a1, b1⟩ := hk v w' hq p l e s m args below meth c G ws0 sz mc ms C T'.heap (locs ++ L) ws' lsA (cells + mc') (slots + ms') hL' hP2 hD2 hS' hl (by omega) (by omega) T' rfl X'
    refine ⟨t2, stp t2 ?_, b1⟩
    have e3 : ((v.toList ++ rest).map vv) = (v.map vv).toList ++ rest.map vv := by cases v <;> simp
    rw [e3] at a1
    exact a1
  · rw [h0] at hz hk9
    have hS' : va_S (va_A ws0 sz) s.heap T'.heap (locs ++ L) := ⟨Nat.le_trans hS.1 (by rw [e1]; exact hz), fun q h1 h2 => by rw [e1, hk9 q (Nat.lt_of_lt_of_le h1 hS.1) (fun z => h2 (hfree q z))]; exact hS.2.1 q h1 h2, fun q hq => by
      rcases List.mem_append.mp hq with h | h
      · exact hS.2.2 q h
      · exact hfree _ (hLo q h)⟩
    have hP2 : va_P G.1 acl ws' T'.heap := by rw [e1]; exact hP'
    have hD2 : va_D (va_A ws0 sz) ws' := hD'.weaken (fun _ _ _ h => hfree _ h)
    obtain ⟨t2, a1, b1⟩ := hx E w' hq p l e s m args below meth c G ws0 sz mc ms C T'.heap (locs ++ L) ws' lsA (cells + mc') (slots + ms') hL' hP2 hD2 hS' hl (by omega) (by omega) ce q (rest.map vv) (by rw [e1]; exact hce) hcv hcl T' rfl X'
    exact ⟨t2, stp.trans a1, b1⟩
/-- a method's contract out of its walk -/
theorem ct_of {mc ms : Nat} {av : List aV} (hy : plainName (kY K).cls = true) (hn : (lg_sl (av.map vv)).length ≤ kL K) (ha : lv_args 0 (av.map vv) = lvv ls) (k : wp K mc ms QR QX 0 ls [] w) : ct K mc ms av w QR QX := by
  intro l G sz ws htr hL
  have body : ∀ (p : Program) (e : Env) (s : State) (m : MethodId) (args : Array Value) (below : List Frame) (meth : Method) (c : Code), p.tables.exec = Jvm.exec → c.code = kC K → meth.sig.returnType = kR K → (∀ w ∈ lw_all, w.before args s = true) → s.vm.findClass (kY K).cls = some m.cls → meth.locks = false → c.maxLocals = kL K → meth.name = (kY K).name → c.exceptionTable.toList = tableOf (kH K) → aPc G av ws sz args s →
      W p l e (arm (kD K) mc ms) s m args below meth c s.heap [] 0 0 (vx_MQ below (aQc G QR ws sz) (aXC G QX ws sz) args s mc ms (va_A ws sz)) (entryFrame m args (kL K)) := by
    intro p e s m args below meth c e1 e2 e3 e4 e5 e6 e7 e8 e9 hp
    obtain ⟨rfl, hsz, hP, hK, hD, hE, hU⟩ := hp
    rw [lg_entry_eq]
    have hl := lv_entry (av.map vv) (n := kL K) hn
    rw [ha] at hl
    exact k p l e s m _ below meth c G ws sz mc ms ⟨e1, e2, e3, e4, e5, e6, e7, htr, e9, hK, hE, hsz, e8, hU⟩ s.heap [] ws _ 0 0 hL hP (hD.self) va_S.rf hl (by omega) (by omega)
  unfold aws kWord
  cases hh : kH K with
  | nil =>
    refine vx_ofW (cc := kC K) (maxL := kL K) (ret := kR K) hy rfl ?_
    intro p e s m args below meth c s₁ B hml hx hp
    have hts0 := atoms_spec (ws := Cond.code (kY K) (kC K) (kL K) (kR K) :: lw_all) B.pre
    refine body p e s m args below meth c B.exec B.bytes B.returns (fun w h => hts0 w (List.mem_cons_of_mem _ h)) (findClass_of_methodNamed B.named) B.notSynchronized hml (name_of_methodNamed B.named B.method).1 ?_ hp
    rw [hh]
    cases ht : c.exceptionTable.toList with
    | nil => rfl
    | cons a b => exact absurd (hx a (by rw [ht]; exact List.mem_cons_self)) (fun h => h)
  | cons h1 h2 =>
    refine vx_ofWH (cc := kC K) (maxL := kL K) (ret := kR K) (hh := h1 :: h2) hy rfl ?_
    intro p e s m args below meth c s₁ B hml hp
    have hts0 := atoms_spec (ws := Cond.codeWith (kY K) (kC K) (kL K) (kR K) (h1 :: h2) :: lw_all) B.pre
    refine body p e s m args below meth c B.exec B.bytes B.returns (fun w h => hts0 w (List.mem_cons_of_mem _ h)) (findClass_of_methodNamed B.named) B.notSynchronized hml (name_of_methodNamed B.named B.method).1 ?_ hp
    rw [hh]
    exact vx_table (x := kY K) B (hts0 _ List.mem_cons_self)
/-- contracts: what they come to may be weakened -/
theorem wp_mono {QR' : Option aV → aW → Prop} {QX' : String → aW → Prop} (h1 : ∀ v w', QR v w' → QR' v w') (h2 : ∀ E w', QX E w' → QX' E w') (k : wp K rc rs QR QX pc ls st w) : wp K rc rs QR' QX' pc ls st w := by
  intro p l e s m args below meth c G ws0 sz mc ms C H locs ws lsA cells slots hL hP hD hS hl hcs hss T hT X
  obtain ⟨t, a1, o, b1, b2, b3⟩ := k p l e s m args below meth c G ws0 sz mc ms C H locs ws lsA cells slots hL hP hD hS hl hcs hss T hT X
  refine ⟨t, a1, o, b1, b2, ?_⟩
  rcases b3 with ⟨⟨v, w', ws', c1, c2, c3⟩, c4⟩ | ⟨q, c1, E, ce, L, ⟨w', ws', d1, d2⟩, c2⟩
  · exact Or.inl ⟨⟨v, w', ws', c1, h1 v w' c2, c3⟩, c4⟩
  · exact Or.inr ⟨q, c1, E, ce, L, ⟨w', ws', h2 E w' d1, d2⟩, c2⟩
/-- the words of a call's callee -/
theorem a_good {s : State} {args : Array Value} {K' : aK} (hts : ∀ w ∈ lw_all, w.before args s = true) (hw : kWord K' ∈ lw_all) : ∀ w ∈ aws K', ∀ (a' : Array Value) (U : State), s.WarmedH U.vm → w.before a' U = true :=
  pay_in hts (fun w h => by
    rcases List.mem_cons.mp h with e | e
    · rw [e]; exact lw_self _ hw
    · exact lw_self _ e)
theorem a_arity {y : MethodName} {n : Nat} (h : (parseMethodDescriptor y.desc).map (fun d => d.parameters.length) = some n) : ∀ sig, parseMethodDescriptor y.desc = some sig → n = sig.parameters.length := by
  intro sig hs
  rw [hs] at h
  exact (Option.some.inj h).symm
theorem a_room {K K' : aK} {mc ms mc' ms' : Nat} (h1 : kD K' + 1 ≤ kD K) (h2 : kL K' ≤ 41) : (arm (kD K') mc' ms').frames + 1 ≤ (arm (kD K) mc ms).frames ∧ 8 + (kL K' + 11) + (arm (kD K') mc' ms').locals ≤ (arm (kD K) mc ms).locals := by
  constructor
  · show kD K' + 10 + 1 ≤ kD K + 10
    omega
  · show 8 + (kL K' + 11) + (10400 + 60 * kD K') ≤ 10400 + 60 * kD K
    omega
theorem a_cats {rest : List aV} (h : (rest.map vcat).sum ≤ 8) : 2 * (0 : Nat) + ((rest.map vv).map fun v => v.category).sum ≤ 8 := by
  rw [List.map_map]
  have e : ((fun v : Value => v.category) ∘ vv) = vcat := funext vv_cat
  rw [e]
  omega
/-- what any call asks of the callee's key -/
def aCal (K K' : aK) : Prop := kWord K' ∈ lw_all ∧ Cond.initialized (kY K').cls ∈ lw_all ∧ ((kY K').cls ≠ "java/lang/invoke/MethodHandle" ∧ (kY K').cls ≠ "java/lang/invoke/VarHandle") ∧ kD K' + 1 ≤ kD K ∧ kL K' ≤ 41
theorem aRun_V {K' : aK} {idx b : Nat} {As rest : List aV} {c0 : aCell} (hd : decode (kC K) pc = .ok (.invokevirtual idx, 3)) (hc : aCal K K') (h1 : Cond.methodLink (kY K).cls idx (kY K') ∈ lw_all) (h2 : Cond.instanceMethod (kY K') ∈ lw_all) (h3 : Cond.selects (aName c0) (kY K') (kY K') ∈ lw_all)
    (hn : (parseMethodDescriptor (kY K').desc).map (fun d => d.parameters.length) = some As.length) (hw : w b = some c0) (hk : aKind c0) (hst : st = As.reverse ++ vR (some b) :: rest) (hr : (rest.map vcat).sum ≤ 8) : aRun K K' pc (vR (some b) :: As) st rest w := by
  obtain ⟨g1, g2, g3, g4, g5⟩ := hc
  intro p l e s m args below meth c G ws0 sz mc ms C H locs ws lsA cells slots hL hP hD hS hls mc' ms' Qc XC hM hcs hss
  have hts := C.2.2.2.1
  have hrm := a_room (mc := mc) (ms := ms) (mc' := mc') (ms' := ms') g4 g5
  have hpre : PreV s H (aName c0) b (aPc G (vR (some b) :: As) ws H.size) (As.map vv) := ⟨aPc_blind, a_recv C.2.2.2.2.2.2.2.2.2.1 hP hL hw hk, aPc_ok C hP hD hS⟩
  have hst2 : (F0 m pc lsA (st.map vv)).stack = (As.map vv).reverse ++ .ref b :: rest.map vv := by
    show st.map vv = _
    rw [hst]
    simp [vv, va_rf]
  have hn2 : (As.map vv).length = As.length := by simp
  have gd := a_good hts g1
  unfold aws kWord at hM gd
  unfold kWord at g1
  cases hh : kH K' with
  | nil =>
    rw [hh] at hM gd g1
    exact vx_runV (own := (kY K).cls) (C := aName c0) ⟨C.1, C.2.1, C.2.2.2.2.2.2.1, C.2.2.2.2.1, hts⟩ hM ⟨⟨rfl, rfl, hrm.1, hrm.2, gd, List.mem_cons_self, hts _ g1, hts _ g2, g3, a_arity hn, hts _ h1⟩, hts _ h2, hts _ h3⟩ hpre rfl hn2 hls hst2 (a_cats hr) hd ⟨hcs, hss⟩
  | cons x y =>
    rw [hh] at hM gd g1
    exact vx_runVX (own := (kY K).cls) (C := aName c0) (hh := x :: y) ⟨C.1, C.2.1, C.2.2.2.2.2.2.1, C.2.2.2.2.1, hts⟩ hM ⟨⟨rfl, rfl, hrm.1, hrm.2, gd, List.mem_cons_self⟩, hts _ g1, hts _ g2, g3, a_arity hn, hts _ h1, hts _ h2, hts _ h3⟩ hpre rfl hn2 hls hst2 (a_cats hr) hd ⟨hcs, hss⟩
/-- the reference's own method is declared: by its code, or by a word of the tables -/
def aDecl (x : MethodName) : Prop := (∃ (b : ByteArray) (L : Nat) (r : Option FieldType), Cond.instanceMethod x ∈ lw_all ∧ Cond.code x b L r ∈ lw_all) ∨ Cond.declares x ∈ lw_tbl
/-- .. a method that the receiver's class inherits or overrides -/
theorem aRun_U {K' : aK} {idx b : Nat} {As rest : List aV} {c0 : aCell} {x : MethodName} {owner : String} (hd : decode (kC K) pc = .ok (.invokevirtual idx, 3)) (hc : aCal K K') (hh : kH K' = []) (h1 : Cond.methodLink (kY K).cls idx x ∈ lw_all) (h2 : Cond.sameMethod x.cls owner x.name x.desc ∈ lw_all) (h3 : Cond.selects (aName c0) x (kY K') ∈ lw_all) (h4 : Cond.instanceMethod (kY K') ∈ lw_all) (h5 : aDecl ⟨owner, x.name, x.desc⟩)
    (hx2 : owner ≠ "java/lang/invoke/MethodHandle" ∧ owner ≠ "java/lang/invoke/VarHandle")
    (hn : (parseMethodDescriptor x.desc).map (fun d => d.parameters.length) = some As.length) (hw : w b = some c0) (hk : aKind c0) (hst : st = As.reverse ++ vR (some b) :: rest) (hr : (rest.map vcat).sum ≤ 8) : aRun K K' pc (vR (some b) :: As) st rest w := by
  obtain ⟨g1, g2, g3, g4, g5⟩ := hc
  intro p l e s m args below meth c G ws0 sz mc ms C H locs ws lsA cells slots hL hP hD hS hls mc' ms' Qc XC hM hcs hss
  have hts := C.2.2.2.1
  have hrm := a_room (mc := mc) (ms := ms) (mc' := mc') (ms' := ms') g4 g5
  have hpre : PreV s H (aName c0) b (aPc G (vR (some b) :: As) ws H.size) (As.map vv) := ⟨aPc_blind, a_recv C.2.2.2.2.2.2.2.2.2.1 hP hL hw hk, aPc_ok C hP hD hS⟩
  have hst2 : (F0 m pc lsA (st.map vv)).stack = (As.map vv).reverse ++ .ref b :: rest.map vv := by
    show st.map vv = _
    rw [hst]
    simp [vv, va_rf]
  have hn2 : (As.map vv).length = As.length := by simp
  have gd := a_good hts g1
  unfold aws kWord at hM gd
  unfold kWord at g1
  rw [hh] at hM gd g1
  have hdc : va_Decl s ⟨owner, x.name, x.desc⟩ := by
    rcases h5 with ⟨b5, L5, r5, i1, i2⟩ | i3
    · exact va_Decl.of (hts _ i1) (hts _ i2)
    · exact va_Decl.abs (C.2.2.2.2.2.2.2.2.2.2.1.1 _ i3 rfl)
  exact vx_runU (own := (kY K).cls) (C := aName c0) (owner := owner) (x := x) ⟨C.1, C.2.1, C.2.2.2.2.2.2.1, C.2.2.2.2.1, hts⟩ hM ⟨⟨rfl, rfl, hrm.1, hrm.2, gd, List.mem_cons_self⟩, hts _ g1, hts _ g2, hx2, a_arity (y := x) hn, hts _ h1, hts _ h2, hdc, hts _ h3, hts _ h4⟩ hpre rfl hn2 hls hst2 (a_cats hr) hd ⟨hcs, hss⟩
/-- super.m(..) -/
theorem aRun_SU {K' : aK} {idx b ci : Nat} {As rest : List aV} {fs : List aV} (hd : decode (kC K) pc = .ok (.invokespecial idx, 3)) (hc : aCal K K') (hh : kH K' = []) (h1 : Cond.methodLink (kY K).cls idx (kY K') ∈ lw_all) (h2 : Cond.sameMethod (kY K').cls (kY K').cls (kY K').name (kY K').desc ∈ lw_all) (h3 : Cond.superclass (kY K).cls (kY K').cls ∈ lw_all) (h4 : Cond.instanceMethod (kY K') ∈ lw_all) (hi : (kY K').name ≠ "<init>")
    (hn : (parseMethodDescriptor (kY K').desc).map (fun d => d.parameters.length) = some As.length) (hw : w b = some (.inr (ci, fs))) (hk : ci < 9) (hst : st = As.reverse ++ vR (some b) :: rest) (hr : (rest.map vcat).sum ≤ 8) : aRun K K' pc (vR (some b) :: As) st rest w := by
  obtain ⟨g1, g2, g3, g4, g5⟩ := hc
  intro p l e s m args below meth c G ws0 sz mc ms C H locs ws lsA cells slots hL hP hD hS hls mc' ms' Qc XC hM hcs hss
  have hts := C.2.2.2.1
  have hrm := a_room (mc := mc) (ms := ms) (mc' := mc') (ms' := ms') g4 g5
  have hpre : PreV s H (aName (.inr (ci, fs))) b (aPc G (vR (some b) :: As) ws H.size) (As.map vv) := ⟨aPc_blind, a_recv C.2.2.2.2.2.2.2.2.2.1 hP hL hw hk, aPc_ok C hP hD hS⟩
  have hst2 : (F0 m pc lsA (st.map vv)).stack = (As.map vv).reverse ++ .ref b :: rest.map vv := by
    show st.map vv = _
    rw [hst]
    simp [vv, va_rf]
  have hn2 : (As.map vv).length = As.length := by simp
  have gd := a_good hts g1
  unfold aws kWord at hM gd
  unfold kWord at g1
  rw [hh] at hM gd g1
  obtain ⟨r, hr9⟩ := acl_at (ci := ci) hk
  have hat := (C.2.2.2.2.2.2.2.2.2.1.1 ci r hr9).2
  have e : aName (.inr (ci, fs)) = r.1 := by
    show (match acl[ci]? with | some r => r.1 | none => "") = r.1
    rw [hr9]
  rw [e] at hpre
  exact vx_runSU (own := (kY K).cls) hat ⟨C.1, C.2.1, C.2.2.2.2.2.2.1, C.2.2.2.2.1, hts⟩ hM ⟨⟨rfl, rfl, hrm.1, hrm.2, gd, List.mem_cons_self⟩, hts _ h1, hts _ h2, hts _ h3, hts _ h4, hts _ g2, hts _ g1, hi, a_arity hn⟩ hpre rfl hn2 hls hst2 (a_cats hr) hd ⟨hcs, hss⟩
theorem aRun_S {K' : aK} {idx : Nat} {As rest : List aV} (hd : decode (kC K) pc = .ok (.invokestatic idx, 3)) (hc : aCal K K') (hh : kH K' = []) (h1 : Cond.methodLink (kY K).cls idx (kY K') ∈ lw_all) (h2 : Cond.static (kY K') ∈ lw_all)
    (hn : (parseMethodDescriptor (kY K').desc).map (fun d => d.parameters.length) = some As.length) (hst : st = As.reverse ++ rest) (hr : (rest.map vcat).sum ≤ 8) : aRun K K' pc As st rest w := by
  obtain ⟨g1, g2, g3, g4, g5⟩ := hc
  intro p l e s m args below meth c G ws0 sz mc ms C H locs ws lsA cells slots hL hP hD hS hls mc' ms' Qc XC hM hcs hss
  have hts := C.2.2.2.1
  have hrm := a_room (mc := mc) (ms := ms) (mc' := mc') (ms' := ms') g4 g5
  have hpre : PreS s H (aPc G As ws H.size) (As.map vv) := ⟨aPc_blind, aPc_ok C hP hD hS⟩
  have hst2 : (F0 m pc lsA (st.map vv)).stack = (As.map vv).reverse ++ rest.map vv := by
    show st.map vv = _
    rw [hst]
    simp
  have hn2 : (As.map vv).length = As.length := by simp
  have gd := a_good hts g1
  unfold aws kWord at hM gd
  unfold kWord at g1
  rw [hh] at hM gd g1
  exact vx_runS (own := (kY K).cls) ⟨C.1, C.2.1, C.2.2.2.2.2.2.1, C.2.2.2.2.1, hts⟩ hM ⟨⟨rfl, rfl, hrm.1, hrm.2, gd, List.mem_cons_self, hts _ g1, hts _ g2, g3, a_arity hn, hts _ h1⟩, hts _ h2⟩ hpre rfl hn2 hls hst2 (a_cats hr) hd ⟨hcs, hss⟩
theorem aRun_I {K' : aK} {idx b : Nat} {As rest : List aV} (hd : decode (kC K) pc = .ok (.invokespecial idx, 3)) (hc : aCal K K') (hh : kH K' = []) (h1 : Cond.methodLink (kY K).cls idx (kY K') ∈ lw_all) (h2 : Cond.instanceMethod (kY K') ∈ lw_all) (hi : (kY K').name = "<init>") (hv : kR K' = none)
    (hn : (parseMethodDescriptor (kY K').desc).map (fun d => d.parameters.length) = some As.length) (hst : st = As.reverse ++ vR (some b) :: rest) (hr : (rest.map vcat).sum ≤ 8) : aRun K K' pc (vR (some b) :: As) st rest w := by
  obtain ⟨g1, g2, g3, g4, g5⟩ := hc
  intro p l e s m args below meth c G ws0 sz mc ms C H locs ws lsA cells slots hL hP hD hS hls mc' ms' Qc XC hM hcs hss
  have hts := C.2.2.2.1
  have hrm := a_room (mc := mc) (ms := ms) (mc' := mc') (ms' := ms') g4 g5
  have hpre : PreS s H (aPc G (vR (some b) :: As) ws H.size) (Value.ref b :: As.map vv) := ⟨aPc_blind, aPc_ok C hP hD hS⟩
  have hst2 : (F0 m pc lsA (st.map vv)).stack = (As.map vv).reverse ++ .ref b :: rest.map vv := by
    show st.map vv = _
    rw [hst]
    simp [vv, va_rf]
  have hn2 : (As.map vv).length = As.length := by simp
  have gd := a_good hts g1
  unfold aws kWord at hM gd
  unfold kWord at g1
  rw [hh, hv] at hM gd g1
  exact vx_runI (own := (kY K).cls) ⟨C.1, C.2.1, C.2.2.2.2.2.2.1, C.2.2.2.2.1, hts⟩ hM ⟨⟨rfl, rfl, hrm.1, hrm.2, gd, List.mem_cons_self, hts _ g1, hts _ g2, g3, a_arity hn, hts _ h1⟩, hi, hts _ h2⟩ hpre rfl hn2 hls hst2 (a_cats hr) hd ⟨hcs, hss⟩
theorem aRun_IN {K' : aK} {idx b : Nat} {As rest : List aV} {host : String} (hd : decode (kC K) pc = .ok (.invokespecial idx, 3)) (hc : aCal K K') (hh : kH K' = []) (h1 : Cond.methodLinkNest (kY K).cls idx (kY K') host ∈ lw_tbl) (h2 : Cond.instanceMethod (kY K') ∈ lw_all) (hi : (kY K').name = "<init>") (hv : kR K' = none)
    (hn : (parseMethodDescriptor (kY K').desc).map (fun d => d.parameters.length) = some As.length) (hst : st = As.reverse ++ vR (some b) :: rest) (hr : (rest.map vcat).sum ≤ 8) : aRun K K' pc (vR (some b) :: As) st rest w := by
  obtain ⟨g1, g2, g3, g4, g5⟩ := hc
  intro p l e s m args below meth c G ws0 sz mc ms C H locs ws lsA cells slots hL hP hD hS hls mc' ms' Qc XC hM hcs hss
  have hts := C.2.2.2.1
  have hrm := a_room (mc := mc) (ms := ms) (mc' := mc') (ms' := ms') g4 g5
  have hpre : PreS s H (aPc G (vR (some b) :: As) ws H.size) (Value.ref b :: As.map vv) := ⟨aPc_blind, aPc_ok C hP hD hS⟩
  have hst2 : (F0 m pc lsA (st.map vv)).stack = (As.map vv).reverse ++ .ref b :: rest.map vv := by
    show st.map vv = _
    rw [hst]
    simp [vv, va_rf]
  have hn2 : (As.map vv).length = As.length := by simp
  have gd := a_good hts g1
  unfold aws kWord at hM gd
  unfold kWord at g1
  rw [hh, hv] at hM gd g1
  exact vx_runIN (own := (kY K).cls) (host := host) ⟨C.1, C.2.1, C.2.2.2.2.2.2.1, C.2.2.2.2.1, hts⟩ hM ⟨⟨⟨rfl, rfl, hrm.1, hrm.2, gd, List.mem_cons_self⟩, hts _ g1, hts _ g2, g3, a_arity hn, va_Nw.use rfl (C.2.2.2.2.2.2.2.2.2.2.1.1 _ h1 rfl)⟩, hi, hts _ h2⟩ hpre rfl hn2 hls hst2 (a_cats hr) hd ⟨hcs, hss⟩
/-- Object's constructor -/
theorem wp_objInit {n idx a : Nat} (hd : decode (kC K) pc = .ok (.invokespecial idx, 3)) (hn : pc + 3 = n) (h1 : Cond.methodLink (kY K).cls idx Lib.objectInit ∈ lw_all) (h2 : Cond.instanceMethod Lib.objectInit ∈ lw_all) (h3 : Cond.code Lib.objectInit ⟨#[0xb1]⟩ 1 none ∈ lw_all) (hr : (st.map vcat).sum ≤ 8) (k : wp K rc rs QR QX n ls st w) : wp K rc rs QR QX pc ls (vR (some a) :: st) w := by
  subst hn
  intro p l e s m args below meth c G ws0 sz mc ms C H locs ws lsA cells slots hL hP hD hS hl hcs hss
  have hts := C.2.2.2.1
  have hr2 := a_cats hr
  exact W.objInit C.1 C.2.1 C.2.2.2.2.1 (hts _ h1) (hts _ h2) (hts _ h3) rfl (by rw [C.2.2.2.2.2.2.1]; exact hl.1) rfl hd (by show 1 ≤ kD K + 10; omega) (by show 2 * 0 + ((st.map vv).map fun v => v.category).sum + 12 ≤ 10400 + 60 * kD K; omega) (k p l e s m args below meth c G ws0 sz mc ms C H locs ws lsA cells slots hL hP hD hS hl hcs hss)
/-- a handler that passes E by: it doesn't cover, or is for another class -/
def aPass (K : aK) (E : String) (z : Nat × Nat × Nat × Nat) : Prop := covers ⟨z.1, z.2.1, z.2.2.1, z.2.2.2⟩ pc = false ∨ (z.2.2.2 ≠ 0 ∧ ∃ nm : String, Cond.classLink (kY K).cls z.2.2.2 nm ∈ lw_all ∧ (E, nm) ∈ aNC)
theorem wpx_catch {E nm : String} (pre : List (Nat × Nat × Nat × Nat)) (x : Nat × Nat × Nat × Nat) (suf : List (Nat × Nat × Nat × Nat)) (hs : kH K = pre ++ x :: suf) (hp : ∀ z ∈ pre, aPass (pc := pc) K E z) (hx : covers ⟨x.1, x.2.1, x.2.2.1, x.2.2.2⟩ pc = true) (h0 : x.2.2.2 ≠ 0) (h1 : Cond.classLink (kY K).cls x.2.2.2 nm ∈ lw_all) (h2 : Cond.castable E nm ∈ lw_tbl)
    (k : ∀ q : Nat, wp K rc rs QR QX x.2.2.1 ls [vR (some q)] w) : wpx K rc rs QR QX pc ls E w := by
  intro p l e s m args below meth c G ws0 sz mc ms C H locs ws lsA cells slots hL hP hD hS hl hcs hss ce q9 rest hce hcv hcl
  have hts := C.2.2.2.1
  refine vx_catch (own := (kY K).cls) (name := nm) (E := E) (ce := ce) C.2.2.2.2.1 (tableOf pre) ⟨x.1, x.2.1, x.2.2.1, x.2.2.2⟩ (tableOf suf) ?_ ?_ hx h0 (hts _ h1) (va_Nw.use rfl (C.2.2.2.2.2.2.2.2.2.2.1.1 _ h2 rfl)) hce hcv hcl (k q9 p l e s m args below meth c G ws0 sz mc ms C H locs ws lsA cells slots hL hP hD hS hl hcs hss)
  · rw [C.2.2.2.2.2.2.2.2.1, hs]
    simp [tableOf]
  · intro z hz
    obtain ⟨y, hy, rfl⟩ := List.mem_map.mp hz
    rcases hp y hy with h | ⟨g1, nm2, g2, g3⟩
    · exact Or.inl h
    · exact Or.inr ⟨g1, nm2, hts _ g2, C.2.2.2.2.2.2.2.2.2.2.1.2.1 _ g3⟩
/-- not caught here -/
theorem wpx_out {E : String} (hp : ∀ z ∈ kH K, aPass (pc := pc) K E z) (h : QX E w) : wpx K rc rs QR QX pc ls E w := by
  intro p l e s m args below meth c G ws0 sz mc ms C H locs ws lsA cells slots hL hP hD hS hl hcs hss ce q9 rest hce hcv hcl
  have hts := C.2.2.2.1
  refine vx_outP (own := (kY K).cls) (E := E) C.2.2.2.2.1 C.2.2.2.2.2.1 ?_ hce hcv hcl (fun t ht hW => ⟨w, ws, h, hL, by rw [ht]; exact hP, hD, hS.F ht⟩) hS.2.2 (by omega) (by omega)
  intro z hz
  rw [C.2.2.2.2.2.2.2.2.1] at hz
  obtain ⟨y, hy, rfl⟩ := List.mem_map.mp hz
  rcases hp y hy with h | ⟨g1, nm2, g2, g3⟩
  · exact Or.inl h
  · exact Or.inr ⟨g1, nm2, hts _ g2, C.2.2.2.2.2.2.2.2.2.2.1.2.1 _ g3⟩
end WP4
