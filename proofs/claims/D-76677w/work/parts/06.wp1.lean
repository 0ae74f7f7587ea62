/-! ===== THE WP LAYER 1: definitions. A world is a partial map from addresses to cells; all of the machine's context is hidden in wp, ct ===== -/
abbrev aV : Type := Int32 ⊕ (Int64 ⊕ Option Nat)
abbrev vI (x : Int32) : aV := .inl x
abbrev vL (x : Int64) : aV := .inr (.inl x)
abbrev vR (r : Option Nat) : aV := .inr (.inr r)
def vv (v : aV) : Value := match v with
  | .inl x => .int x
  | .inr (.inl y) => .long y
  | .inr (.inr r) => va_rf r
def vcat (v : aV) : Nat := match v with
  | .inr (.inl _) => 2
  | _ => 1
theorem vv_cat (v : aV) : (vv v).category = vcat v := by
  rcases v with x | y | r
  · rfl
  · rfl
  · cases r <;> rfl
abbrev aG : Type := va_G × (Nat → ClassId)
abbrev aCell : Type := (Nat × vp_A) ⊕ (Nat × List aV)
abbrev aW : Type := Nat → Option aCell
def acl : List vw_C := [(RX0, TX0, 11), (RX1, TX1, 1), (RX2, TX2, 11), (RX3, TX3, 13), (RX5, TX5, 6), (RX6, TX6, 7), (RX7, TX7, 7), (RX8, TX8, 8), (RX9, TX9, 1)]
def aty (k : Nat) : FieldType := match k with
  | 0 => .int
  | 1 => .long
  | 2 => .object "java/lang/Object"
  | 3 => .object "DeadListPool$Snapshot"
  | 4 => .object "DeadListPool$Sheet"
  | 5 => .object "DeadListPool$Folder"
  | _ => .array .int
def atys (G : aG) : List (ClassId × FieldType) := (List.range 7).map (fun k => (G.2 k, aty k))
theorem atys_at (G : aG) {k : Nat} (h : k < 7) : (atys G)[k]? = some (G.2 k, aty k) := by
  simp [atys, h]
def acv (G : aG) (c : aCell) : va_E := match c with
  | .inl x => .inl (G.2 x.1, x.2)
  | .inr o => .inr (o.1, o.2.map vv)
def LW (G : aG) (w : aW) (ws : va_W) : Prop := ∀ (a : Nat) (c : aCell), w a = some c → ∃ k : Nat, ws[k]? = some (a, acv G c)
def aup (w : aW) (a : Nat) (c : aCell) : aW := fun q => if q = a then some c else w q
theorem aup_self (w : aW) (a : Nat) (c : aCell) : aup w a c a = some c := by simp [aup]
theorem aup_ne {w : aW} {a q : Nat} {c : aCell} (h : q ≠ a) : aup w a c q = w q := by simp [aup, h]
theorem LW.set {G : aG} {w : aW} {ws : va_W} {A : Nat → Prop} {k a : Nat} {e0 : va_E} {c : aCell} (h : LW G w ws) (hk : ws[k]? = some (a, e0)) : LW G (aup w a c) (ws.set k (a, acv G c)) := by
  have hl := (List.getElem?_eq_some_iff.mp hk).1
  intro q d hq
  by_cases hqa : q = a
  · subst hqa
    rw [aup_self] at hq
    cases hq
    exact ⟨k, List.getElem?_set_self hl⟩
  · rw [aup_ne hqa] at hq
    obtain ⟨j, hj⟩ := h q d hq
    refine ⟨j, ?_⟩
    have hjk : k ≠ j := by
      intro e
      subst e
      rw [hk] at hj
      cases hj
      exact hqa rfl
    rw [List.getElem?_set_ne hjk]
    exact hj
theorem LW.push {G : aG} {w : aW} {ws : va_W} {a : Nat} {c : aCell} (h : LW G w ws) : LW G (aup w a c) (ws ++ [(a, acv G c)]) := by
  intro q d hq
  by_cases hqa : q = a
  · subst hqa
    rw [aup_self] at hq
    cases hq
    exact ⟨ws.length, by simp⟩
  · rw [aup_ne hqa] at hq
    obtain ⟨j, hj⟩ := h q d hq
    exact ⟨j, by rw [List.getElem?_append_left (List.getElem?_eq_some_iff.mp hj).1]; exact hj⟩
theorem LW.fresh {G : aG} {w : aW} {ws : va_W} {A : Nat → Prop} {a : Nat} {e : va_E} (h : LW G w ws) (hD : va_D A (ws ++ [(a, e)])) : w a = none := by
  cases hw : w a with
  | none => rfl
  | some c =>
    obtain ⟨j, hj⟩ := h a c hw
    have hl := (List.getElem?_eq_some_iff.mp hj).1
    have h1 : (ws ++ [(a, e)])[j]? = some (a, acv G c) := by rw [List.getElem?_append_left hl]; exact hj
    have h2 : (ws ++ [(a, e)])[ws.length]? = some (a, e) := by simp
    have := hD.1 j ws.length _ _ h1 h2 rfl
    omega
/-- a method: its name, code, places of locals, answer's type, handlers, depth -/
abbrev aK : Type := MethodName × ByteArray × Nat × Option FieldType × List (Nat × Nat × Nat × Nat) × Nat
abbrev kY (K : aK) : MethodName := K.1
abbrev kC (K : aK) : ByteArray := K.2.1
abbrev kL (K : aK) : Nat := K.2.2.1
abbrev kR (K : aK) : Option FieldType := K.2.2.2.1
abbrev kH (K : aK) : List (Nat × Nat × Nat × Nat) := K.2.2.2.2.1
abbrev kD (K : aK) : Nat := K.2.2.2.2.2
def kWord (K : aK) : Cond := match kH K with
  | [] => Cond.code (kY K) (kC K) (kL K) (kR K)
  | hh => Cond.codeWith (kY K) (kC K) (kL K) (kR K) hh
def aws (K : aK) : List Cond := kWord K :: lw_all
def arm (d mc ms : Nat) : Room := { frames := d + 10, cells := mc, slots := ms, locals := 10400 + 60 * d }
/-- words of the tables that don't ride in the lists, but hold all through -/
def aEw (w : Cond) : Bool := match w with
  | .fieldLinkNest .. => true
  | .methodLinkNest .. => true
  | .castable .. => true
  | .declares .. => true
  | _ => false
/-- pairs of names that are not castable (narrow_1 says so) -/
def aNC : List (String × String) := [("DeadListPool$Folder", "DeadListPool$Bound"), ("DeadListPool$Folder", "DeadListPool$Snapshot"), ("DeadListPool$Folder", "DeadListPool$Tagged"), ("DeadListPool$Folder", "DeadListPool$Bookmark"), ("DeadListPool$Bound", "DeadListPool$Snapshot"), ("DeadListPool$Bound", "DeadListPool$Tagged"), ("DeadListPool$Bound", "DeadListPool$Bookmark"), ("DeadListPool$Snapshot", "DeadListPool$Folder"), ("DeadListPool$Snapshot", "DeadListPool$Bound"), ("DeadListPool$Snapshot", "DeadListPool$Tagged"), ("DeadListPool$Snapshot", "DeadListPool$Bookmark"), ("DeadListPool$Tagged", "DeadListPool$Folder"), ("DeadListPool$Tagged", "DeadListPool$Bound"), ("DeadListPool$Tagged", "DeadListPool$Bookmark"), ("DeadListPool$Bookmark", "DeadListPool$Holder"), ("DeadListPool$Bookmark", "DeadListPool$Folder"), ("DeadListPool$Bookmark", "DeadListPool$Bound"), ("DeadListPool$Bookmark", "DeadListPool$Snapshot"), ("DeadListPool$Bookmark", "DeadListPool$Tagged"), ("[I", "[J"), ("[J", "[I"), ("java/lang/IndexOutOfBoundsException", "java/lang/NullPointerException"), ("java/lang/IndexOutOfBoundsException", "java/lang/ClassCastException"), ("java/lang/IndexOutOfBoundsException", "java/lang/NegativeArraySizeException"), ("java/lang/NullPointerException", "java/lang/IndexOutOfBoundsException"), ("java/lang/NullPointerException", "java/lang/ClassCastException"), ("java/lang/NullPointerException", "java/lang/NegativeArraySizeException"), ("java/lang/ClassCastException", "java/lang/IndexOutOfBoundsException"), ("java/lang/ClassCastException", "java/lang/NullPointerException"), ("java/lang/ClassCastException", "java/lang/NegativeArraySizeException"), ("java/lang/NegativeArraySizeException", "java/lang/IndexOutOfBoundsException"), ("java/lang/NegativeArraySizeException", "java/lang/NullPointerException"), ("java/lang/NegativeArraySizeException", "java/lang/ClassCastException")]
def aOV : List FieldType := [.object "java/lang/Object", .object "DeadListPool$Snapshot", .object "DeadListPool$Sheet", .object "DeadListPool$Folder", .array .int]
def aMR (U : State) : Prop := ∀ md ∈ U.vm.modules, (md.loader.isSome || md.name == "java.base" || !(castPackages_1.any fun q => md.packages.contains q)) = true
def aEnv (U : State) : Prop := (∀ w ∈ lw_tbl, aEw w = true → va_Nw w U) ∧ (∀ q ∈ aNC, va_Nc q.1 q.2 U) ∧ (∀ t ∈ aOV, (Cond.arrayOver t).before #[] U = true) ∧ aMR U
abbrev aU (A : Nat → Prop) (U : State) (H : Heap) : Prop := vx_Zq Bundle.tN "UNASSIGNED_STACK" Bundle.steD A U H ∧ vx_Zq Bundle.tN "SUPPRESSED_SENTINEL" Bundle.listD A U H
def aPc (G : aG) (av : List aV) (ws : va_W) (sz : Nat) : Array Value → State → Prop :=
  va_Pc (av.map vv) (fun U => U.heap.size = sz ∧ va_P G.1 acl ws U.heap ∧ va_K G.1 acl (atys G) U ∧ va_D (fun _ => True) ws ∧ aEnv U ∧ aU (va_A ws sz) U U.heap)
def aQc (G : aG) (QR : Option aV → aW → Prop) (ws : va_W) (sz : Nat) : Array Value → State → Outcome → State → Prop :=
  fun _ st oc t => ∃ (v : Option aV) (w' : aW) (ws' : va_W), oc = .returned (v.map vv) ∧ QR v w' ∧ LW G w' ws' ∧ va_P G.1 acl ws' t.heap ∧ va_D (va_A ws sz) ws' ∧ va_F (va_A ws sz) st t
def aXC (G : aG) (QX : String → aW → Prop) (ws : va_W) (sz : Nat) : String → State → State → Prop :=
  fun E st t => ∃ (w' : aW) (ws' : va_W), QX E w' ∧ LW G w' ws' ∧ va_P G.1 acl ws' t.heap ∧ va_D (va_A ws sz) ws' ∧ va_F (va_A ws sz) st t
/-- a contract: from every world w, with the arguments av and room for mc cells of ms slots, the method comes to QR or QX -/
def ct (K : aK) (mc ms : Nat) (av : List aV) (w : aW) (QR : Option aV → aW → Prop) (QX : String → aW → Prop) : Prop :=
  ∀ (l : Launch) (G : aG) (sz : Nat) (ws : va_W), l.stackTraces = false → LW G w ws →
    vx_Met l (kY K) (aws K) (arm (kD K) mc ms) (aPc G av ws sz) (aQc G QR ws sz) (aXC G QX ws sz) mc ms (va_A ws sz)
/-- what holds all through a method's run -/
def aCtx (K : aK) (G : aG) (p : Program) (l : Launch) (s : State) (m : MethodId) (args : Array Value) (meth : Method) (c : Code) (ws0 : va_W) (sz : Nat) : Prop :=
  p.tables.exec = Jvm.exec ∧ c.code = kC K ∧ meth.sig.returnType = kR K ∧ (∀ w ∈ lw_all, w.before args s = true) ∧ s.vm.findClass (kY K).cls = some m.cls ∧ meth.locks = false ∧ c.maxLocals = kL K ∧
  l.stackTraces = false ∧ c.exceptionTable.toList = tableOf (kH K) ∧ va_K G.1 acl (atys G) s ∧ aEnv s ∧ s.heap.size = sz ∧ meth.name = (kY K).name ∧ aU (va_A ws0 sz) s s.heap
def lvv (ls : List (Nat × aV)) : List (Nat × Value) := ls.map (fun q => (q.1, vv q.2))
/-- from the frame at pc with locals ls and stack st in the world w the method comes to QR or QX, with room left for rc cells of rs slots -/
def wp (K : aK) (rc rs : Nat) (QR : Option aV → aW → Prop) (QX : String → aW → Prop) (pc : Nat) (ls : List (Nat × aV)) (st : List aV) (w : aW) : Prop :=
  ∀ (p : Program) (l : Launch) (e : Env) (s : State) (m : MethodId) (args : Array Value) (below : List Frame) (meth : Method) (c : Code) (G : aG) (ws0 : va_W) (sz mc ms : Nat), aCtx K G p l s m args meth c ws0 sz →
  ∀ (H : Heap) (locs : List Loc) (ws : va_W) (lsA : Array Slot) (cells slots : Nat), LW G w ws → va_P G.1 acl ws H → va_D (va_A ws0 sz) ws → va_S (va_A ws0 sz) s.heap H locs → lv_has lsA (kL K) (lvv ls) → cells + rc ≤ mc → slots + rs ≤ ms →
    W p l e (arm (kD K) mc ms) s m args below meth c H locs cells slots (vx_MQ below (aQc G QR ws0 sz) (aXC G QX ws0 sz) args s mc ms (va_A ws0 sz)) (F0 m pc lsA (st.map vv))
/-- .. E thrown at pc -/
def wpx (K : aK) (rc rs : Nat) (QR : Option aV → aW → Prop) (QX : String → aW → Prop) (pc : Nat) (ls : List (Nat × aV)) (E : String) (w : aW) : Prop :=
  ∀ (p : Program) (l : Launch) (e : Env) (s : State) (m : MethodId) (args : Array Value) (below : List Frame) (meth : Method) (c : Code) (G : aG) (ws0 : va_W) (sz mc ms : Nat), aCtx K G p l s m args meth c ws0 sz →
  ∀ (H : Heap) (locs : List Loc) (ws : va_W) (lsA : Array Slot) (cells slots : Nat), LW G w ws → va_P G.1 acl ws H → va_D (va_A ws0 sz) ws → va_S (va_A ws0 sz) s.heap H locs → lv_has lsA (kL K) (lvv ls) → cells + rc ≤ mc → slots + rs ≤ ms →
  ∀ (ce : Cell) (q9 : Addr) (rest : List Value), H[q9]? = some ce → ce.vm = .none → s.vm.findClass E = some ce.cls →
    vx_W p l e (arm (kD K) mc ms) s m args below meth c H locs cells slots (vx_MQ below (aQc G QR ws0 sz) (aXC G QX ws0 sz) args s mc ms (va_A ws0 sz)) (F0 m pc lsA rest) q9
