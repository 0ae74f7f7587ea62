/-! ===== THE WP LAYER 7: a world read and written, by predicates; the program's tables ===== -/
set_option maxRecDepth 100000
def isO (w : aW) (a ci : Nat) : Prop := ∃ fs, w a = some (.inr (ci, fs))
def gf (w : aW) (a : Nat) (cs : List Nat) (k : Nat) (v : aV) : Prop := ∃ (ci : Nat) (fs : List aV), w a = some (.inr (ci, fs)) ∧ ci ∈ cs ∧ fs[k]? = some v
def pf (w : aW) (a : Nat) (cs : List Nat) (k : Nat) (v : aV) (P : aW → Prop) : Prop := ∃ (ci : Nat) (fs : List aV), w a = some (.inr (ci, fs)) ∧ ci ∈ cs ∧ k < fs.length ∧ P (aup w a (.inr (ci, fs.set k v)))
def gI (w : aW) (a : Nat) (i x : Int32) : Prop := ∃ (N : Nat) (f : Nat → Int32), w a = some (.inl (0, N, .inl f)) ∧ vp_in i N ∧ f i.toNatClampNeg = x
def gL (w : aW) (a : Nat) (i : Int32) (x : Int64) : Prop := ∃ (N : Nat) (f : Nat → Int64), w a = some (.inl (1, N, .inr (.inl f))) ∧ vp_in i N ∧ f i.toNatClampNeg = x
def gR (w : aW) (a t : Nat) (i : Int32) (x : Option Nat) : Prop := ∃ (N : Nat) (f : Nat → Option Nat), w a = some (.inl (t, N, .inr (.inr (.inr (.inr f))))) ∧ vp_in i N ∧ f i.toNatClampNeg = x
def pI (w : aW) (a : Nat) (i x : Int32) (P : aW → Prop) : Prop := ∃ (N : Nat) (f : Nat → Int32), w a = some (.inl (0, N, .inl f)) ∧ vp_in i N ∧ P (aup w a (.inl (0, N, .inl (upd f i.toNatClampNeg x))))
def pL (w : aW) (a : Nat) (i : Int32) (x : Int64) (P : aW → Prop) : Prop := ∃ (N : Nat) (f : Nat → Int64), w a = some (.inl (1, N, .inr (.inl f))) ∧ vp_in i N ∧ P (aup w a (.inl (1, N, .inr (.inl (vp_updL f i.toNatClampNeg x)))))
def pR (w : aW) (a t : Nat) (i : Int32) (x : Option Nat) (P : aW → Prop) : Prop := ∃ (N : Nat) (f : Nat → Option Nat), w a = some (.inl (t, N, .inr (.inr (.inr (.inr f))))) ∧ vp_in i N ∧ P (aup w a (.inl (t, N, .inr (.inr (.inr (.inr (va_up f i.toNatClampNeg x)))))))
def gA (w : aW) (a : Nat) (n : Int32) : Prop := ∃ (t N : Nat) (x : (Nat → Int32) ⊕ (Nat → Int64) ⊕ (Nat → UInt32) ⊕ (Nat → UInt64) ⊕ (Nat → Option Nat)), t < 7 ∧ w a = some (.inl (t, N, x)) ∧ Int32.ofNat N = n
/-- a cell's kind: an object's number, 20 and more: a row's -/
def kd (c : aCell) : Nat := match c with
  | .inl x => 20 + x.1
  | .inr o => o.1
def aRow (c : aCell) : Prop := match c with
  | .inl _ => True
  | .inr _ => False
def ck (w : aW) (a : Nat) (ks : List Nat) : Prop := ∃ c, w a = some c ∧ kd c ∈ ks
def ckr (w : aW) (a : Nat) (t : Nat) : Prop := ∃ x, w a = some (.inl (t, x))
/-- what a write asks of the field -/
def aPut (own nm : String) (idx ci k : Nat) (T : FieldType) : Prop := aFld own idx ci k ∧ (∃ ty0, aTy ci ty0 ∧ ty0 k = T) ∧ aFin own nm ci k
def aPutN (own : String) (idx ci k : Nat) (T : FieldType) : Prop := aFldN own idx ci k ∧ (∃ ty0, aTy ci ty0 ∧ ty0 k = T) ∧ aFin own "" ci k
theorem nar_o (C : String) (r : Option Nat) : narrow (.object C) (vv (vR r)) = vv (vR r) := by cases r <;> rfl
theorem fit_o (C : String) (r : Option Nat) : fits (.object C) (vv (vR r)) = true := by cases r <;> rfl
theorem nar_a (t : FieldType) (r : Option Nat) : narrow (.array t) (vv (vR r)) = vv (vR r) := by cases r <;> rfl
theorem fit_a (t : FieldType) (r : Option Nat) : fits (.array t) (vv (vR r)) = true := by cases r <;> rfl
section WP7
variable {K : aK} {rc rs : Nat} {QR : Option aV → aW → Prop} {QX : String → aW → Prop} {pc : Nat} {ls : List (Nat × aV)} {st : List aV} {w : aW}
theorem wp_gf {n idx a k : Nat} {cs : List Nat} {v : aV} (hd : decode (kC K) pc = .ok (.getfield idx, 3)) (hn : pc + 3 = n) (hf : ∀ ci ∈ cs, aFld (kY K).cls idx ci k) (h : gf w a cs k v) (kk : wp K rc rs QR QX n ls (v :: st) w) : wp K rc rs QR QX pc ls (vR (some a) :: st) w := by
  obtain ⟨ci, fs, h1, h2, h3⟩ := h
  exact wp_getf hd hn (hf ci h2) h1 h3 kk
theorem wp_gfn {n idx a k : Nat} {cs : List Nat} {v : aV} (hd : decode (kC K) pc = .ok (.getfield idx, 3)) (hn : pc + 3 = n) (hf : ∀ ci ∈ cs, aFldN (kY K).cls idx ci k) (h : gf w a cs k v) (kk : wp K rc rs QR QX n ls (v :: st) w) : wp K rc rs QR QX pc ls (vR (some a) :: st) w := by
  obtain ⟨ci, fs, h1, h2, h3⟩ := h
  exact wp_getfn hd hn (hf ci h2) h1 h3 kk
theorem wp_pf {n idx a k : Nat} {cs : List Nat} {v : aV} {T : FieldType} (hd : decode (kC K) pc = .ok (.putfield idx, 3)) (hn : pc + 3 = n) (hf : ∀ ci ∈ cs, aPut (kY K).cls (kY K).name idx ci k T) (hv : narrow T (vv v) = vv v) (hv2 : fits T (vv v) = true) (h : pf w a cs k v (fun w' => wp K rc rs QR QX n ls st w')) : wp K rc rs QR QX pc ls (v :: vR (some a) :: st) w := by
  obtain ⟨ci, fs, h1, h2, h3, h4⟩ := h
  obtain ⟨f1, ⟨ty0, f2, f3⟩, f4⟩ := hf ci h2
  subst f3
  exact wp_putf hd hn f1 f2 f4 h1 h3 hv hv2 h4
theorem wp_pfn {n idx a k : Nat} {cs : List Nat} {v : aV} {T : FieldType} (hd : decode (kC K) pc = .ok (.putfield idx, 3)) (hn : pc + 3 = n) (hf : ∀ ci ∈ cs, aPutN (kY K).cls idx ci k T) (hv : narrow T (vv v) = vv v) (hv2 : fits T (vv v) = true) (h : pf w a cs k v (fun w' => wp K rc rs QR QX n ls st w')) : wp K rc rs QR QX pc ls (v :: vR (some a) :: st) w := by
  obtain ⟨ci, fs, h1, h2, h3, h4⟩ := h
  obtain ⟨f1, ⟨ty0, f2, f3⟩, f4⟩ := hf ci h2
  subst f3
  exact wp_putfn hd hn f1 f2 f4 h1 h3 hv hv2 h4
theorem wp_gI {n a : Nat} {i x : Int32} (hd : decode (kC K) pc = .ok (.iaload, 1)) (hn : pc + 1 = n) (h : gI w a i x) (kk : wp K rc rs QR QX n ls (vI x :: st) w) : wp K rc rs QR QX pc ls (vI i :: vR (some a) :: st) w := by
  obtain ⟨N, f, h1, h2, rfl⟩ := h
  exact wp_iald hd hn h1 h2 kk
theorem wp_gL {n a : Nat} {i : Int32} {x : Int64} (hd : decode (kC K) pc = .ok (.laload, 1)) (hn : pc + 1 = n) (h : gL w a i x) (kk : wp K rc rs QR QX n ls (vL x :: st) w) : wp K rc rs QR QX pc ls (vI i :: vR (some a) :: st) w := by
  obtain ⟨N, f, h1, h2, rfl⟩ := h
  exact wp_lald hd hn h1 h2 kk
theorem wp_gR {n a t : Nat} {i : Int32} {x : Option Nat} (hd : decode (kC K) pc = .ok (.aaload, 1)) (hn : pc + 1 = n) (ht : 2 ≤ t ∧ t < 7) (h : gR w a t i x) (kk : wp K rc rs QR QX n ls (vR x :: st) w) : wp K rc rs QR QX pc ls (vI i :: vR (some a) :: st) w := by
  obtain ⟨N, f, h1, h2, rfl⟩ := h
  exact wp_aald hd hn ht h1 h2 kk
theorem wp_pI {n a : Nat} {i x : Int32} (hd : decode (kC K) pc = .ok (.iastore, 1)) (hn : pc + 1 = n) (h : pI w a i x (fun w' => wp K rc rs QR QX n ls st w')) : wp K rc rs QR QX pc ls (vI x :: vI i :: vR (some a) :: st) w := by
  obtain ⟨N, f, h1, h2, h3⟩ := h
  exact wp_iast hd hn h1 h2 h3
theorem wp_pL {n a : Nat} {i : Int32} {x : Int64} (hd : decode (kC K) pc = .ok (.lastore, 1)) (hn : pc + 1 = n) (h : pL w a i x (fun w' => wp K rc rs QR QX n ls st w')) : wp K rc rs QR QX pc ls (vL x :: vI i :: vR (some a) :: st) w := by
  obtain ⟨N, f, h1, h2, h3⟩ := h
  exact wp_last hd hn h1 h2 h3
theorem wp_pR {n a t : Nat} {i : Int32} {r : Option Nat} {E : String} {ks : List Nat} (hd : decode (kC K) pc = .ok (.aastore, 1)) (hn : pc + 1 = n) (ht : t < 7) (hE : aty t = .object E) (hk : ∀ c, kd c ∈ ks → aKind c ∧ aCast (aName c) E) (hr : r = none ∨ ∃ v, r = some v ∧ ck w v ks) (h : pR w a t i r (fun w' => wp K rc rs QR QX n ls st w')) : wp K rc rs QR QX pc ls (vR r :: vI i :: vR (some a) :: st) w := by
  obtain ⟨N, f, h1, h2, h3⟩ := h
  rcases hr with rfl | ⟨v, rfl, c, g1, g2⟩
  · exact wp_aastN hd hn ht hE h1 h2 h3
  · exact wp_aast hd hn ht hE h1 g1 (hk c g2).1 (hk c g2).2 h2 h3
theorem wp_gA {n a : Nat} {x : Int32} (hd : decode (kC K) pc = .ok (.arraylength, 1)) (hn : pc + 1 = n) (h : gA w a x) (kk : wp K rc rs QR QX n ls (vI x :: st) w) : wp K rc rs QR QX pc ls (vR (some a) :: st) w := by
  obtain ⟨t, N, y, h1, h2, rfl⟩ := h
  exact wp_alen hd hn h1 h2 kk
theorem wp_ckY {n idx a : Nat} {nm : String} {ks : List Nat} (hd : decode (kC K) pc = .ok (.checkcast idx, 3)) (hn : pc + 3 = n) (hl0 : Cond.classLink (kY K).cls idx nm ∈ lw_all) (hk : ∀ c, kd c ∈ ks → aKind c ∧ aCast (aName c) nm) (h : ck w a ks) (k : wp K rc rs QR QX n ls (vR (some a) :: st) w) : wp K rc rs QR QX pc ls (vR (some a) :: st) w := by
  obtain ⟨c, h1, h2⟩ := h
  exact wp_castY hd hn hl0 h1 (hk c h2).1 (hk c h2).2 k
theorem wp_ckX {idx a rc' rs' : Nat} {nm : String} {ks : List Nat} (hd : decode (kC K) pc = .ok (.checkcast idx, 3)) (hl0 : Cond.classLink (kY K).cls idx nm ∈ lw_all) (hk : ∀ c, kd c ∈ ks → aKind c ∧ (aName c, nm) ∈ aNC ∧ (packageOf (aName c) = "" ∧ (dotted (aName c)).toList.length ≤ 22)) (hB : packageOf nm = "" ∧ (dotted nm).toList.length ≤ 22) (h : ck w a ks)
    (h1 : rc' + 3 ≤ rc) (h2 : rs' + 950 ≤ rs) (hr : ((vR (some a) :: st).map vcat).sum ≤ 8) (k : wpx K rc' rs' QR QX pc ls "java/lang/ClassCastException" w) : wp K rc rs QR QX pc ls (vR (some a) :: st) w := by
  obtain ⟨c, g1, g2⟩ := h
  obtain ⟨q1, q2, q3⟩ := hk c g2
  exact wp_castX hd hl0 g1 q1 q2 q3 hB h1 h2 hr k
theorem wp_ciY {n idx a : Nat} {nm : String} {ks : List Nat} (hd : decode (kC K) pc = .ok (.instanceof idx, 3)) (hn : pc + 3 = n) (hl0 : Cond.classLink (kY K).cls idx nm ∈ lw_all) (hk : ∀ c, kd c ∈ ks → aKind c ∧ aCast (aName c) nm) (h : ck w a ks) (k : wp K rc rs QR QX n ls (vI 1 :: st) w) : wp K rc rs QR QX pc ls (vR (some a) :: st) w := by
  obtain ⟨c, h1, h2⟩ := h
  exact wp_instY hd hn hl0 h1 (hk c h2).1 (hk c h2).2 k
theorem wp_ciX {n idx a : Nat} {nm : String} {ks : List Nat} (hd : decode (kC K) pc = .ok (.instanceof idx, 3)) (hn : pc + 3 = n) (hl0 : Cond.classLink (kY K).cls idx nm ∈ lw_all) (hk : ∀ c, kd c ∈ ks → aKind c ∧ (aName c, nm) ∈ aNC ∧ (packageOf (aName c) = "" ∧ (dotted (aName c)).toList.length ≤ 22)) (h : ck w a ks) (k : wp K rc rs QR QX n ls (vI 0 :: st) w) : wp K rc rs QR QX pc ls (vR (some a) :: st) w := by
  obtain ⟨c, g1, g2⟩ := h
  obtain ⟨q1, q2, q3⟩ := hk c g2
  exact wp_instX hd hn hl0 g1 q1 q2 k
/-- a switch: outside -/
theorem sw_out {x : Int32} {lo hi : Int} (h : ∀ z : Int32, lo ≤ z.toInt → z.toInt ≤ hi → ¬ x = z) : x.toInt < lo ∨ hi < x.toInt := by
  by_cases h1 : x.toInt < lo
  · exact Or.inl h1
  · by_cases h2 : hi < x.toInt
    · exact Or.inr h2
    · exact absurd rfl (h x (by omega) (by omega))
end WP7
def aKf (K : aK) : Prop := kWord K ∈ lw_all ∧ Cond.initialized (kY K).cls ∈ lw_all ∧ ((kY K).cls ≠ "java/lang/invoke/MethodHandle" ∧ (kY K).cls ≠ "java/lang/invoke/VarHandle") ∧ kL K ≤ 41
theorem aCal_of {K K' : aK} (h : aKf K') (hd : kD K' + 1 ≤ kD K) : aCal K K' := ⟨h.1, h.2.1, h.2.2.1, hd, h.2.2.2⟩

theorem nc_Folder_Bound : ("DeadListPool$Folder", "DeadListPool$Bound") ∈ aNC := List.mem_of_getElem? (i := 0) rfl
theorem nc_Folder_Snapshot : ("DeadListPool$Folder", "DeadListPool$Snapshot") ∈ aNC := List.mem_of_getElem? (i := 1) rfl
theorem nc_Folder_Tagged : ("DeadListPool$Folder", "DeadListPool$Tagged") ∈ aNC := List.mem_of_getElem? (i := 2) rfl
theorem nc_Folder_Bookmark : ("DeadListPool$Folder", "DeadListPool$Bookmark") ∈ aNC := List.mem_of_getElem? (i := 3) rfl
theorem nc_Bound_Snapshot : ("DeadListPool$Bound", "DeadListPool$Snapshot") ∈ aNC := List.mem_of_getElem? (i := 4) rfl
theorem nc_Bound_Tagged : ("DeadListPool$Bound", "DeadListPool$Tagged") ∈ aNC := List.mem_of_getElem? (i := 5) rfl
theorem nc_Bound_Bookmark : ("DeadListPool$Bound", "DeadListPool$Bookmark") ∈ aNC := List.mem_of_getElem? (i := 6) rfl
theorem nc_Snapshot_Folder : ("DeadListPool$Snapshot", "DeadListPool$Folder") ∈ aNC := List.mem_of_getElem? (i := 7) rfl
theorem nc_Snapshot_Bound : ("DeadListPool$Snapshot", "DeadListPool$Bound") ∈ aNC := List.mem_of_getElem? (i := 8) rfl
theorem nc_Snapshot_Tagged : ("DeadListPool$Snapshot", "DeadListPool$Tagged") ∈ aNC := List.mem_of_getElem? (i := 9) rfl
theorem nc_Snapshot_Bookmark : ("DeadListPool$Snapshot", "DeadListPool$Bookmark") ∈ aNC := List.mem_of_getElem? (i := 10) rfl
theorem nc_Tagged_Folder : ("DeadListPool$Tagged", "DeadListPool$Folder") ∈ aNC := List.mem_of_getElem? (i := 11) rfl
theorem nc_Tagged_Bound : ("DeadListPool$Tagged", "DeadListPool$Bound") ∈ aNC := List.mem_of_getElem? (i := 12) rfl
theorem nc_Tagged_Bookmark : ("DeadListPool$Tagged", "DeadListPool$Bookmark") ∈ aNC := List.mem_of_getElem? (i := 13) rfl
theorem nc_Bookmark_Holder : ("DeadListPool$Bookmark", "DeadListPool$Holder") ∈ aNC := List.mem_of_getElem? (i := 14) rfl
theorem nc_Bookmark_Folder : ("DeadListPool$Bookmark", "DeadListPool$Folder") ∈ aNC := List.mem_of_getElem? (i := 15) rfl
theorem nc_Bookmark_Bound : ("DeadListPool$Bookmark", "DeadListPool$Bound") ∈ aNC := List.mem_of_getElem? (i := 16) rfl
theorem nc_Bookmark_Snapshot : ("DeadListPool$Bookmark", "DeadListPool$Snapshot") ∈ aNC := List.mem_of_getElem? (i := 17) rfl
theorem nc_Bookmark_Tagged : ("DeadListPool$Bookmark", "DeadListPool$Tagged") ∈ aNC := List.mem_of_getElem? (i := 18) rfl
theorem nc__I__J : ("[I", "[J") ∈ aNC := List.mem_of_getElem? (i := 19) rfl
theorem nc__J__I : ("[J", "[I") ∈ aNC := List.mem_of_getElem? (i := 20) rfl
theorem nc_IndexOutOfBoundsException_NullPointerException : ("java/lang/IndexOutOfBoundsException", "java/lang/NullPointerException") ∈ aNC := List.mem_of_getElem? (i := 21) rfl
theorem nc_IndexOutOfBoundsException_ClassCastException : ("java/lang/IndexOutOfBoundsException", "java/lang/ClassCastException") ∈ aNC := List.mem_of_getElem? (i := 22) rfl
theorem nc_IndexOutOfBoundsException_NegativeArraySizeException : ("java/lang/IndexOutOfBoundsException", "java/lang/NegativeArraySizeException") ∈ aNC := List.mem_of_getElem? (i := 23) rfl
theorem nc_NullPointerException_IndexOutOfBoundsException : ("java/lang/NullPointerException", "java/lang/IndexOutOfBoundsException") ∈ aNC := List.mem_of_getElem? (i := 24) rfl
theorem nc_NullPointerException_ClassCastException : ("java/lang/NullPointerException", "java/lang/ClassCastException") ∈ aNC := List.mem_of_getElem? (i := 25) rfl
theorem nc_NullPointerException_NegativeArraySizeException : ("java/lang/NullPointerException", "java/lang/NegativeArraySizeException") ∈ aNC := List.mem_of_getElem? (i := 26) rfl
theorem nc_ClassCastException_IndexOutOfBoundsException : ("java/lang/ClassCastException", "java/lang/IndexOutOfBoundsException") ∈ aNC := List.mem_of_getElem? (i := 27) rfl
theorem nc_ClassCastException_NullPointerException : ("java/lang/ClassCastException", "java/lang/NullPointerException") ∈ aNC := List.mem_of_getElem? (i := 28) rfl
theorem nc_ClassCastException_NegativeArraySizeException : ("java/lang/ClassCastException", "java/lang/NegativeArraySizeException") ∈ aNC := List.mem_of_getElem? (i := 29) rfl
theorem nc_NegativeArraySizeException_IndexOutOfBoundsException : ("java/lang/NegativeArraySizeException", "java/lang/IndexOutOfBoundsException") ∈ aNC := List.mem_of_getElem? (i := 30) rfl
theorem nc_NegativeArraySizeException_NullPointerException : ("java/lang/NegativeArraySizeException", "java/lang/NullPointerException") ∈ aNC := List.mem_of_getElem? (i := 31) rfl
theorem nc_NegativeArraySizeException_ClassCastException : ("java/lang/NegativeArraySizeException", "java/lang/ClassCastException") ∈ aNC := List.mem_of_getElem? (i := 32) rfl
theorem sn_Folder : packageOf "DeadListPool$Folder" = "" ∧ (dotted "DeadListPool$Folder").toList.length ≤ 22 := by decide +kernel
theorem sn_Bound : packageOf "DeadListPool$Bound" = "" ∧ (dotted "DeadListPool$Bound").toList.length ≤ 22 := by decide +kernel
theorem sn_Snapshot : packageOf "DeadListPool$Snapshot" = "" ∧ (dotted "DeadListPool$Snapshot").toList.length ≤ 22 := by decide +kernel
theorem sn_Tagged : packageOf "DeadListPool$Tagged" = "" ∧ (dotted "DeadListPool$Tagged").toList.length ≤ 22 := by decide +kernel
theorem sn_Bookmark : packageOf "DeadListPool$Bookmark" = "" ∧ (dotted "DeadListPool$Bookmark").toList.length ≤ 22 := by decide +kernel
theorem sn_Holder : packageOf "DeadListPool$Holder" = "" ∧ (dotted "DeadListPool$Holder").toList.length ≤ 22 := by decide +kernel
theorem sn_I1 : packageOf "[I" = "" ∧ (dotted "[I").toList.length ≤ 22 := by decide +kernel
theorem sn_J1 : packageOf "[J" = "" ∧ (dotted "[J").toList.length ≤ 22 := by decide +kernel
theorem kd_o {c : aCell} {k : Nat} (h : kd c = k) (hk : k < 20) : ∃ fs, c = .inr (k, fs) := by
  rcases c with ⟨t, x⟩ | ⟨ci, fs⟩
  · exfalso
    have h' : 20 + t = k := h
    omega
  · have h' : ci = k := h
    subst h'
    exact ⟨fs, rfl⟩
theorem kd_a {c : aCell} {t : Nat} (h : kd c = 20 + t) (hc : aKind c) : ∃ x, c = .inl (t, x) := by
  rcases c with ⟨t', x⟩ | ⟨ci, fs⟩
  · have h' : 20 + t' = 20 + t := h
    have : t' = t := by omega
    subst this
    exact ⟨x, rfl⟩
  · exfalso
    have h' : ci = 20 + t := h
    have h2 : ci < 9 := hc
    omega
theorem cok_Holder : ∀ c, kd c ∈ [4, 5, 6, 7] → aKind c ∧ aCast (aName c) "DeadListPool$Holder" := by
  intro c h
  simp only [List.mem_cons, List.not_mem_nil, or_false] at h
  rcases h with h | h | h | h
  · obtain ⟨fs, rfl⟩ := kd_o h (by decide)
    exact ⟨(by decide : 4 < 9), Or.inr q1392⟩
  · obtain ⟨fs, rfl⟩ := kd_o h (by decide)
    exact ⟨(by decide : 5 < 9), Or.inr q1391⟩
  · obtain ⟨fs, rfl⟩ := kd_o h (by decide)
    exact ⟨(by decide : 6 < 9), Or.inr q1393⟩
  · obtain ⟨fs, rfl⟩ := kd_o h (by decide)
    exact ⟨(by decide : 7 < 9), Or.inr q1394⟩
theorem cno_Holder : ∀ c, kd c ∈ [8] → aKind c ∧ (aName c, "DeadListPool$Holder") ∈ aNC ∧ (packageOf (aName c) = "" ∧ (dotted (aName c)).toList.length ≤ 22) := by
  intro c h
  simp only [List.mem_cons, List.not_mem_nil, or_false] at h
  obtain ⟨fs, rfl⟩ := kd_o h (by decide)
  exact ⟨(by decide : 8 < 9), nc_Bookmark_Holder, sn_Bookmark⟩
theorem cok_Folder : ∀ c, kd c ∈ [4, 5] → aKind c ∧ aCast (aName c) "DeadListPool$Folder" := by
  intro c h
  simp only [List.mem_cons, List.not_mem_nil, or_false] at h
  rcases h with h | h
  · obtain ⟨fs, rfl⟩ := kd_o h (by decide)
    exact ⟨(by decide : 4 < 9), Or.inl rfl⟩
  · obtain ⟨fs, rfl⟩ := kd_o h (by decide)
    exact ⟨(by decide : 5 < 9), Or.inr q1389⟩
theorem cno_Folder : ∀ c, kd c ∈ [6, 7, 8] → aKind c ∧ (aName c, "DeadListPool$Folder") ∈ aNC ∧ (packageOf (aName c) = "" ∧ (dotted (aName c)).toList.length ≤ 22) := by
  intro c h
  simp only [List.mem_cons, List.not_mem_nil, or_false] at h
  rcases h with h | h | h
  · obtain ⟨fs, rfl⟩ := kd_o h (by decide)
    exact ⟨(by decide : 6 < 9), nc_Snapshot_Folder, sn_Snapshot⟩
  · obtain ⟨fs, rfl⟩ := kd_o h (by decide)
    exact ⟨(by decide : 7 < 9), nc_Tagged_Folder, sn_Tagged⟩
  · obtain ⟨fs, rfl⟩ := kd_o h (by decide)
    exact ⟨(by decide : 8 < 9), nc_Bookmark_Folder, sn_Bookmark⟩
theorem cok_Bound : ∀ c, kd c ∈ [5] → aKind c ∧ aCast (aName c) "DeadListPool$Bound" := by
  intro c h
  simp only [List.mem_cons, List.not_mem_nil, or_false] at h
  obtain ⟨fs, rfl⟩ := kd_o h (by decide)
  exact ⟨(by decide : 5 < 9), Or.inl rfl⟩
theorem cno_Bound : ∀ c, kd c ∈ [4, 6, 7, 8] → aKind c ∧ (aName c, "DeadListPool$Bound") ∈ aNC ∧ (packageOf (aName c) = "" ∧ (dotted (aName c)).toList.length ≤ 22) := by
  intro c h
  simp only [List.mem_cons, List.not_mem_nil, or_false] at h
  rcases h with h | h | h | h
  · obtain ⟨fs, rfl⟩ := kd_o h (by decide)
    exact ⟨(by decide : 4 < 9), nc_Folder_Bound, sn_Folder⟩
  · obtain ⟨fs, rfl⟩ := kd_o h (by decide)
    exact ⟨(by decide : 6 < 9), nc_Snapshot_Bound, sn_Snapshot⟩
  · obtain ⟨fs, rfl⟩ := kd_o h (by decide)
    exact ⟨(by decide : 7 < 9), nc_Tagged_Bound, sn_Tagged⟩
  · obtain ⟨fs, rfl⟩ := kd_o h (by decide)
    exact ⟨(by decide : 8 < 9), nc_Bookmark_Bound, sn_Bookmark⟩
theorem cok_Snapshot : ∀ c, kd c ∈ [6, 7] → aKind c ∧ aCast (aName c) "DeadListPool$Snapshot" := by
  intro c h
  simp only [List.mem_cons, List.not_mem_nil, or_false] at h
  rcases h with h | h
  · obtain ⟨fs, rfl⟩ := kd_o h (by decide)
    exact ⟨(by decide : 6 < 9), Or.inl rfl⟩
  · obtain ⟨fs, rfl⟩ := kd_o h (by decide)
    exact ⟨(by decide : 7 < 9), Or.inr q1390⟩
theorem cno_Snapshot : ∀ c, kd c ∈ [4, 5, 8] → aKind c ∧ (aName c, "DeadListPool$Snapshot") ∈ aNC ∧ (packageOf (aName c) = "" ∧ (dotted (aName c)).toList.length ≤ 22) := by
  intro c h
  simp only [List.mem_cons, List.not_mem_nil, or_false] at h
  rcases h with h | h | h
  · obtain ⟨fs, rfl⟩ := kd_o h (by decide)
    exact ⟨(by decide : 4 < 9), nc_Folder_Snapshot, sn_Folder⟩
  · obtain ⟨fs, rfl⟩ := kd_o h (by decide)
    exact ⟨(by decide : 5 < 9), nc_Bound_Snapshot, sn_Bound⟩
  · obtain ⟨fs, rfl⟩ := kd_o h (by decide)
    exact ⟨(by decide : 8 < 9), nc_Bookmark_Snapshot, sn_Bookmark⟩
theorem cok_Tagged : ∀ c, kd c ∈ [7] → aKind c ∧ aCast (aName c) "DeadListPool$Tagged" := by
  intro c h
  simp only [List.mem_cons, List.not_mem_nil, or_false] at h
  obtain ⟨fs, rfl⟩ := kd_o h (by decide)
  exact ⟨(by decide : 7 < 9), Or.inl rfl⟩
theorem cno_Tagged : ∀ c, kd c ∈ [4, 5, 6, 8] → aKind c ∧ (aName c, "DeadListPool$Tagged") ∈ aNC ∧ (packageOf (aName c) = "" ∧ (dotted (aName c)).toList.length ≤ 22) := by
  intro c h
  simp only [List.mem_cons, List.not_mem_nil, or_false] at h
  rcases h with h | h | h | h
  · obtain ⟨fs, rfl⟩ := kd_o h (by decide)
    exact ⟨(by decide : 4 < 9), nc_Folder_Tagged, sn_Folder⟩
  · obtain ⟨fs, rfl⟩ := kd_o h (by decide)
    exact ⟨(by decide : 5 < 9), nc_Bound_Tagged, sn_Bound⟩
  · obtain ⟨fs, rfl⟩ := kd_o h (by decide)
    exact ⟨(by decide : 6 < 9), nc_Snapshot_Tagged, sn_Snapshot⟩
  · obtain ⟨fs, rfl⟩ := kd_o h (by decide)
    exact ⟨(by decide : 8 < 9), nc_Bookmark_Tagged, sn_Bookmark⟩
theorem cok_Bookmark : ∀ c, kd c ∈ [8] → aKind c ∧ aCast (aName c) "DeadListPool$Bookmark" := by
  intro c h
  simp only [List.mem_cons, List.not_mem_nil, or_false] at h
  obtain ⟨fs, rfl⟩ := kd_o h (by decide)
  exact ⟨(by decide : 8 < 9), Or.inl rfl⟩
theorem cno_Bookmark : ∀ c, kd c ∈ [4, 5, 6, 7] → aKind c ∧ (aName c, "DeadListPool$Bookmark") ∈ aNC ∧ (packageOf (aName c) = "" ∧ (dotted (aName c)).toList.length ≤ 22) := by
  intro c h
  simp only [List.mem_cons, List.not_mem_nil, or_false] at h
  rcases h with h | h | h | h
  · obtain ⟨fs, rfl⟩ := kd_o h (by decide)
    exact ⟨(by decide : 4 < 9), nc_Folder_Bookmark, sn_Folder⟩
  · obtain ⟨fs, rfl⟩ := kd_o h (by decide)
    exact ⟨(by decide : 5 < 9), nc_Bound_Bookmark, sn_Bound⟩
  · obtain ⟨fs, rfl⟩ := kd_o h (by decide)
    exact ⟨(by decide : 6 < 9), nc_Snapshot_Bookmark, sn_Snapshot⟩
  · obtain ⟨fs, rfl⟩ := kd_o h (by decide)
    exact ⟨(by decide : 7 < 9), nc_Tagged_Bookmark, sn_Tagged⟩
theorem cok_I1 : ∀ c, kd c ∈ [20] → aRow c → aKind c ∧ aCast (aName c) "[I" := by
  intro c h hr
  rcases c with ⟨t, x⟩ | ⟨ci, fs⟩
  · have h1 : 20 + t = 20 := List.mem_singleton.mp h
    have : t = 0 := by omega
    subst this
    have e : aName (.inl (0, x)) = "[I" := by
      show "[" ++ (aty 0).toString = _
      decide +kernel
    exact ⟨(by decide : 0 < 7), Or.inl e⟩
  · exact absurd hr (fun z => z)
theorem cno_I1 : ∀ c, kd c ∈ [21] → aRow c → aKind c ∧ (aName c, "[I") ∈ aNC ∧ (packageOf (aName c) = "" ∧ (dotted (aName c)).toList.length ≤ 22) := by
  intro c h hr
  rcases c with ⟨t, x⟩ | ⟨ci, fs⟩
  · have h1 : 20 + t = 21 := List.mem_singleton.mp h
    have : t = 1 := by omega
    subst this
    have e : aName (.inl (1, x)) = "[J" := by
      show "[" ++ (aty 1).toString = _
      decide +kernel
    rw [e]
    exact ⟨(by decide : 1 < 7), nc__J__I, by decide +kernel⟩
  · exact absurd hr (fun z => z)
theorem cok_J1 : ∀ c, kd c ∈ [21] → aRow c → aKind c ∧ aCast (aName c) "[J" := by
  intro c h hr
  rcases c with ⟨t, x⟩ | ⟨ci, fs⟩
  · have h1 : 20 + t = 21 := List.mem_singleton.mp h
    have : t = 1 := by omega
    subst this
    have e : aName (.inl (1, x)) = "[J" := by
      show "[" ++ (aty 1).toString = _
      decide +kernel
    exact ⟨(by decide : 1 < 7), Or.inl e⟩
  · exact absurd hr (fun z => z)
theorem cno_J1 : ∀ c, kd c ∈ [20] → aRow c → aKind c ∧ (aName c, "[J") ∈ aNC ∧ (packageOf (aName c) = "" ∧ (dotted (aName c)).toList.length ≤ 22) := by
  intro c h hr
  rcases c with ⟨t, x⟩ | ⟨ci, fs⟩
  · have h1 : 20 + t = 20 := List.mem_singleton.mp h
    have : t = 0 := by omega
    subst this
    have e : aName (.inl (0, x)) = "[I" := by
      show "[" ++ (aty 0).toString = _
      decide +kernel
    rw [e]
    exact ⟨(by decide : 0 < 7), nc__I__J, by decide +kernel⟩
  · exact absurd hr (fun z => z)
theorem cok_Object : ∀ c, kd c ∈ [4, 5, 6, 7, 8] → aKind c ∧ aCast (aName c) "java/lang/Object" := by
  intro c h
  simp only [List.mem_cons, List.not_mem_nil, or_false] at h
  rcases h with h | h | h | h | h
  · obtain ⟨fs, rfl⟩ := kd_o h (by decide)
    exact ⟨(by decide : 4 < 9), Or.inr q1399⟩
  · obtain ⟨fs, rfl⟩ := kd_o h (by decide)
    exact ⟨(by decide : 5 < 9), Or.inr q1400⟩
  · obtain ⟨fs, rfl⟩ := kd_o h (by decide)
    exact ⟨(by decide : 6 < 9), Or.inr q1406⟩
  · obtain ⟨fs, rfl⟩ := kd_o h (by decide)
    exact ⟨(by decide : 7 < 9), Or.inr q1405⟩
  · obtain ⟨fs, rfl⟩ := kd_o h (by decide)
    exact ⟨(by decide : 8 < 9), Or.inr q1407⟩
theorem cok_Sheet : ∀ c, kd c ∈ [1] → aKind c ∧ aCast (aName c) "DeadListPool$Sheet" := by
  intro c h
  simp only [List.mem_cons, List.not_mem_nil, or_false] at h
  obtain ⟨fs, rfl⟩ := kd_o h (by decide)
  exact ⟨(by decide : 1 < 9), Or.inl rfl⟩
theorem ckr_ck {w : aW} {a t : Nat} (h : ckr w a t) {Q : aCell → Prop} (hk : ∀ c, kd c ∈ [20 + t] → aRow c → Q c) : ∃ c, w a = some c ∧ Q c := by
  obtain ⟨x, hx⟩ := h
  exact ⟨_, hx, hk _ (List.mem_singleton.mpr rfl) trivial⟩
theorem fl_X0_376 : ∀ ci ∈ [1], aFldN RX0 376 ci 0 := by
  intro ci h
  simp only [List.mem_cons, List.not_mem_nil, or_false] at h
  subst h
  exact ⟨(RX1, TX1, 1), "DeadListPool$Sheet", "DeadListPool", rfl, (by decide : 0 < 1), in_X1, q128, rfl⟩
theorem pt_X0_376 : ∀ ci ∈ [1], aPutN RX0 376 ci 0 (.object "java/lang/Object") := by
  intro ci h
  have h0 := fl_X0_376 ci h
  simp only [List.mem_cons, List.not_mem_nil, or_false] at h
  subst h
  exact ⟨h0, ⟨tyX1, ⟨(RX1, TX1, 1), rfl, tyX1_ok, nmX1⟩, rfl⟩, ⟨(RX1, TX1, 1), rfl, Or.inl rfl⟩⟩
theorem fl_X0_480 : ∀ ci ∈ [2], aFldN RX0 480 ci 0 := by
  intro ci h
  simp only [List.mem_cons, List.not_mem_nil, or_false] at h
  subst h
  exact ⟨(RX2, TX2, 11), "DeadListPool$Copy", "DeadListPool", rfl, (by decide : 0 < 11), in_X2, q146, rfl⟩
theorem fl_X0_463 : ∀ ci ∈ [2], aFldN RX0 463 ci 1 := by
  intro ci h
  simp only [List.mem_cons, List.not_mem_nil, or_false] at h
  subst h
  exact ⟨(RX2, TX2, 11), "DeadListPool$Copy", "DeadListPool", rfl, (by decide : 1 < 11), in_X2, q148, rfl⟩
theorem fl_X0_466 : ∀ ci ∈ [2], aFldN RX0 466 ci 2 := by
  intro ci h
  simp only [List.mem_cons, List.not_mem_nil, or_false] at h
  subst h
  exact ⟨(RX2, TX2, 11), "DeadListPool$Copy", "DeadListPool", rfl, (by decide : 2 < 11), in_X2, q150, rfl⟩
theorem fl_X0_468 : ∀ ci ∈ [2], aFldN RX0 468 ci 3 := by
  intro ci h
  simp only [List.mem_cons, List.not_mem_nil, or_false] at h
  subst h
  exact ⟨(RX2, TX2, 11), "DeadListPool$Copy", "DeadListPool", rfl, (by decide : 3 < 11), in_X2, q152, rfl⟩
theorem fl_X0_470 : ∀ ci ∈ [2], aFldN RX0 470 ci 4 := by
  intro ci h
  simp only [List.mem_cons, List.not_mem_nil, or_false] at h
  subst h
  exact ⟨(RX2, TX2, 11), "DeadListPool$Copy", "DeadListPool", rfl, (by decide : 4 < 11), in_X2, q154, rfl⟩
theorem fl_X0_473 : ∀ ci ∈ [2], aFldN RX0 473 ci 5 := by
  intro ci h
  simp only [List.mem_cons, List.not_mem_nil, or_false] at h
  subst h
  exact ⟨(RX2, TX2, 11), "DeadListPool$Copy", "DeadListPool", rfl, (by decide : 5 < 11), in_X2, q156, rfl⟩
theorem fl_X0_477 : ∀ ci ∈ [2], aFldN RX0 477 ci 6 := by
  intro ci h
  simp only [List.mem_cons, List.not_mem_nil, or_false] at h
  subst h
  exact ⟨(RX2, TX2, 11), "DeadListPool$Copy", "DeadListPool", rfl, (by decide : 6 < 11), in_X2, q158, rfl⟩
theorem fl_X0_485 : ∀ ci ∈ [2], aFldN RX0 485 ci 7 := by
  intro ci h
  simp only [List.mem_cons, List.not_mem_nil, or_false] at h
  subst h
  exact ⟨(RX2, TX2, 11), "DeadListPool$Copy", "DeadListPool", rfl, (by decide : 7 < 11), in_X2, q160, rfl⟩
theorem fl_X0_486 : ∀ ci ∈ [2], aFldN RX0 486 ci 8 := by
  intro ci h
  simp only [List.mem_cons, List.not_mem_nil, or_false] at h
  subst h
  exact ⟨(RX2, TX2, 11), "DeadListPool$Copy", "DeadListPool", rfl, (by decide : 8 < 11), in_X2, q162, rfl⟩
theorem fl_X0_487 : ∀ ci ∈ [2], aFldN RX0 487 ci 9 := by
  intro ci h
  simp only [List.mem_cons, List.not_mem_nil, or_false] at h
  subst h
  exact ⟨(RX2, TX2, 11), "DeadListPool$Copy", "DeadListPool", rfl, (by decide : 9 < 11), in_X2, q163, rfl⟩
theorem pt_X0_487 : ∀ ci ∈ [2], aPutN RX0 487 ci 9 (.int) := by
  intro ci h
  have h0 := fl_X0_487 ci h
  simp only [List.mem_cons, List.not_mem_nil, or_false] at h
  subst h
  exact ⟨h0, ⟨tyX2, ⟨(RX2, TX2, 11), rfl, tyX2_ok, nmX2⟩, rfl⟩, ⟨(RX2, TX2, 11), rfl, Or.inl rfl⟩⟩
theorem fl_X0_488 : ∀ ci ∈ [2], aFldN RX0 488 ci 10 := by
  intro ci h
  simp only [List.mem_cons, List.not_mem_nil, or_false] at h
  subst h
  exact ⟨(RX2, TX2, 11), "DeadListPool$Copy", "DeadListPool", rfl, (by decide : 10 < 11), in_X2, q164, rfl⟩
theorem pt_X0_488 : ∀ ci ∈ [2], aPutN RX0 488 ci 10 (.int) := by
  intro ci h
  have h0 := fl_X0_488 ci h
  simp only [List.mem_cons, List.not_mem_nil, or_false] at h
  subst h
  exact ⟨h0, ⟨tyX2, ⟨(RX2, TX2, 11), rfl, tyX2_ok, nmX2⟩, rfl⟩, ⟨(RX2, TX2, 11), rfl, Or.inl rfl⟩⟩
theorem fl_X0_9 : ∀ ci ∈ [0], aFld RX0 9 ci 0 := by
  intro ci h
  simp only [List.mem_cons, List.not_mem_nil, or_false] at h
  subst h
  exact ⟨(RX0, TX0, 11), "DeadListPool", rfl, (by decide : 0 < 11), in_X0, q188, Or.inl rfl⟩
theorem pti_X0_9 : ∀ ci ∈ [0], aPut RX0 "<init>" 9 ci 0 (.array .int) := by
  intro ci h
  have h0 := fl_X0_9 ci h
  simp only [List.mem_cons, List.not_mem_nil, or_false] at h
  subst h
  exact ⟨h0, ⟨tyX0, ⟨(RX0, TX0, 11), rfl, tyX0_ok, nmX0⟩, rfl⟩, ⟨(RX0, TX0, 11), rfl, Or.inr ⟨rfl, rfl, rfl⟩⟩⟩
theorem fl_X0_13 : ∀ ci ∈ [0], aFld RX0 13 ci 1 := by
  intro ci h
  simp only [List.mem_cons, List.not_mem_nil, or_false] at h
  subst h
  exact ⟨(RX0, TX0, 11), "DeadListPool", rfl, (by decide : 1 < 11), in_X0, q189, Or.inl rfl⟩
theorem pti_X0_13 : ∀ ci ∈ [0], aPut RX0 "<init>" 13 ci 1 (.array .int) := by
  intro ci h
  have h0 := fl_X0_13 ci h
  simp only [List.mem_cons, List.not_mem_nil, or_false] at h
  subst h
  exact ⟨h0, ⟨tyX0, ⟨(RX0, TX0, 11), rfl, tyX0_ok, nmX0⟩, rfl⟩, ⟨(RX0, TX0, 11), rfl, Or.inr ⟨rfl, rfl, rfl⟩⟩⟩
theorem fl_X0_16 : ∀ ci ∈ [0], aFld RX0 16 ci 2 := by
  intro ci h
  simp only [List.mem_cons, List.not_mem_nil, or_false] at h
  subst h
  exact ⟨(RX0, TX0, 11), "DeadListPool", rfl, (by decide : 2 < 11), in_X0, q190, Or.inl rfl⟩
theorem pt_X0_16 (nm : String) : ∀ ci ∈ [0], aPut RX0 nm 16 ci 2 (.int) := by
  intro ci h
  have h0 := fl_X0_16 ci h
  simp only [List.mem_cons, List.not_mem_nil, or_false] at h
  subst h
  exact ⟨h0, ⟨tyX0, ⟨(RX0, TX0, 11), rfl, tyX0_ok, nmX0⟩, rfl⟩, ⟨(RX0, TX0, 11), rfl, Or.inl rfl⟩⟩
theorem fl_X0_50 : ∀ ci ∈ [0], aFld RX0 50 ci 3 := by
  intro ci h
  simp only [List.mem_cons, List.not_mem_nil, or_false] at h
  subst h
  exact ⟨(RX0, TX0, 11), "DeadListPool", rfl, (by decide : 3 < 11), in_X0, q191, Or.inl rfl⟩
theorem pt_X0_50 (nm : String) : ∀ ci ∈ [0], aPut RX0 nm 50 ci 3 (.int) := by
  intro ci h
  have h0 := fl_X0_50 ci h
  simp only [List.mem_cons, List.not_mem_nil, or_false] at h
  subst h
  exact ⟨h0, ⟨tyX0, ⟨(RX0, TX0, 11), rfl, tyX0_ok, nmX0⟩, rfl⟩, ⟨(RX0, TX0, 11), rfl, Or.inl rfl⟩⟩
theorem fl_X0_20 : ∀ ci ∈ [0], aFld RX0 20 ci 4 := by
  intro ci h
  simp only [List.mem_cons, List.not_mem_nil, or_false] at h
  subst h
  exact ⟨(RX0, TX0, 11), "DeadListPool", rfl, (by decide : 4 < 11), in_X0, q192, Or.inl rfl⟩
theorem pti_X0_20 : ∀ ci ∈ [0], aPut RX0 "<init>" 20 ci 4 (.array (.object "java/lang/Object")) := by
  intro ci h
  have h0 := fl_X0_20 ci h
  simp only [List.mem_cons, List.not_mem_nil, or_false] at h
  subst h
  exact ⟨h0, ⟨tyX0, ⟨(RX0, TX0, 11), rfl, tyX0_ok, nmX0⟩, rfl⟩, ⟨(RX0, TX0, 11), rfl, Or.inr ⟨rfl, rfl, rfl⟩⟩⟩
theorem fl_X0_24 : ∀ ci ∈ [0], aFld RX0 24 ci 5 := by
  intro ci h
  simp only [List.mem_cons, List.not_mem_nil, or_false] at h
  subst h
  exact ⟨(RX0, TX0, 11), "DeadListPool", rfl, (by decide : 5 < 11), in_X0, q193, Or.inl rfl⟩
theorem pti_X0_24 : ∀ ci ∈ [0], aPut RX0 "<init>" 24 ci 5 (.array .int) := by
  intro ci h
  have h0 := fl_X0_24 ci h
  simp only [List.mem_cons, List.not_mem_nil, or_false] at h
  subst h
  exact ⟨h0, ⟨tyX0, ⟨(RX0, TX0, 11), rfl, tyX0_ok, nmX0⟩, rfl⟩, ⟨(RX0, TX0, 11), rfl, Or.inr ⟨rfl, rfl, rfl⟩⟩⟩
theorem fl_X0_29 : ∀ ci ∈ [0], aFld RX0 29 ci 6 := by
  intro ci h
  simp only [List.mem_cons, List.not_mem_nil, or_false] at h
  subst h
  exact ⟨(RX0, TX0, 11), "DeadListPool", rfl, (by decide : 6 < 11), in_X0, q194, Or.inl rfl⟩
theorem pti_X0_29 : ∀ ci ∈ [0], aPut RX0 "<init>" 29 ci 6 (.array (.object "DeadListPool$Snapshot")) := by
  intro ci h
  have h0 := fl_X0_29 ci h
  simp only [List.mem_cons, List.not_mem_nil, or_false] at h
  subst h
  exact ⟨h0, ⟨tyX0, ⟨(RX0, TX0, 11), rfl, tyX0_ok, nmX0⟩, rfl⟩, ⟨(RX0, TX0, 11), rfl, Or.inr ⟨rfl, rfl, rfl⟩⟩⟩
theorem fl_X0_36 : ∀ ci ∈ [0], aFld RX0 36 ci 7 := by
  intro ci h
  simp only [List.mem_cons, List.not_mem_nil, or_false] at h
  subst h
  exact ⟨(RX0, TX0, 11), "DeadListPool", rfl, (by decide : 7 < 11), in_X0, q195, Or.inl rfl⟩
theorem pti_X0_36 : ∀ ci ∈ [0], aPut RX0 "<init>" 36 ci 7 (.array (.object "DeadListPool$Sheet")) := by
  intro ci h
  have h0 := fl_X0_36 ci h
  simp only [List.mem_cons, List.not_mem_nil, or_false] at h
  subst h
  exact ⟨h0, ⟨tyX0, ⟨(RX0, TX0, 11), rfl, tyX0_ok, nmX0⟩, rfl⟩, ⟨(RX0, TX0, 11), rfl, Or.inr ⟨rfl, rfl, rfl⟩⟩⟩
theorem fl_X0_43 : ∀ ci ∈ [0], aFld RX0 43 ci 8 := by
  intro ci h
  simp only [List.mem_cons, List.not_mem_nil, or_false] at h
  subst h
  exact ⟨(RX0, TX0, 11), "DeadListPool", rfl, (by decide : 8 < 11), in_X0, q196, Or.inl rfl⟩
theorem pti_X0_43 : ∀ ci ∈ [0], aPut RX0 "<init>" 43 ci 8 (.object "DeadListPool$Copy") := by
  intro ci h
  have h0 := fl_X0_43 ci h
  simp only [List.mem_cons, List.not_mem_nil, or_false] at h
  subst h
  exact ⟨h0, ⟨tyX0, ⟨(RX0, TX0, 11), rfl, tyX0_ok, nmX0⟩, rfl⟩, ⟨(RX0, TX0, 11), rfl, Or.inr ⟨rfl, rfl, rfl⟩⟩⟩
theorem fl_X0_47 : ∀ ci ∈ [0], aFld RX0 47 ci 9 := by
  intro ci h
  simp only [List.mem_cons, List.not_mem_nil, or_false] at h
  subst h
  exact ⟨(RX0, TX0, 11), "DeadListPool", rfl, (by decide : 9 < 11), in_X0, q197, Or.inl rfl⟩
theorem pti_X0_47 : ∀ ci ∈ [0], aPut RX0 "<init>" 47 ci 9 (.object "DeadListPool$Copy") := by
  intro ci h
  have h0 := fl_X0_47 ci h
  simp only [List.mem_cons, List.not_mem_nil, or_false] at h
  subst h
  exact ⟨h0, ⟨tyX0, ⟨(RX0, TX0, 11), rfl, tyX0_ok, nmX0⟩, rfl⟩, ⟨(RX0, TX0, 11), rfl, Or.inr ⟨rfl, rfl, rfl⟩⟩⟩
theorem fl_X0_494 : ∀ ci ∈ [0], aFld RX0 494 ci 10 := by
  intro ci h
  simp only [List.mem_cons, List.not_mem_nil, or_false] at h
  subst h
  exact ⟨(RX0, TX0, 11), "DeadListPool", rfl, (by decide : 10 < 11), in_X0, q198, Or.inl rfl⟩
theorem pt_X0_494 (nm : String) : ∀ ci ∈ [0], aPut RX0 nm 494 ci 10 (.boolean) := by
  intro ci h
  have h0 := fl_X0_494 ci h
  simp only [List.mem_cons, List.not_mem_nil, or_false] at h
  subst h
  exact ⟨h0, ⟨tyX0, ⟨(RX0, TX0, 11), rfl, tyX0_ok, nmX0⟩, rfl⟩, ⟨(RX0, TX0, 11), rfl, Or.inl rfl⟩⟩
theorem fl_X0_67 : ∀ ci ∈ [4, 5, 6, 7], aFld RX0 67 ci 0 := by
  intro ci h
  simp only [List.mem_cons, List.not_mem_nil, or_false] at h
  rcases h with rfl | rfl | rfl | rfl
  · exact ⟨(RX5, TX5, 6), "DeadListPool$Holder", rfl, (by decide : 0 < 6), in_X5, q247, Or.inl rfl⟩
  · exact ⟨(RX6, TX6, 7), "DeadListPool$Holder", rfl, (by decide : 0 < 7), in_X6, q247, Or.inl rfl⟩
  · exact ⟨(RX7, TX7, 7), "DeadListPool$Holder", rfl, (by decide : 0 < 7), in_X7, q247, Or.inl rfl⟩
  · exact ⟨(RX8, TX8, 8), "DeadListPool$Holder", rfl, (by decide : 0 < 8), in_X8, q247, Or.inl rfl⟩
theorem fl_X0_197 : ∀ ci ∈ [6, 7], aFld RX0 197 ci 0 := by
  intro ci h
  simp only [List.mem_cons, List.not_mem_nil, or_false] at h
  rcases h with rfl | rfl
  · exact ⟨(RX7, TX7, 7), "DeadListPool$Snapshot", rfl, (by decide : 0 < 7), in_X7, q248, Or.inr q246⟩
  · exact ⟨(RX8, TX8, 8), "DeadListPool$Snapshot", rfl, (by decide : 0 < 8), in_X8, q248, Or.inr q246⟩
theorem fl_X0_288 : ∀ ci ∈ [4, 5], aFld RX0 288 ci 0 := by
  intro ci h
  simp only [List.mem_cons, List.not_mem_nil, or_false] at h
  rcases h with rfl | rfl
  · exact ⟨(RX5, TX5, 6), "DeadListPool$Folder", rfl, (by decide : 0 < 6), in_X5, q249, Or.inr q250⟩
  · exact ⟨(RX6, TX6, 7), "DeadListPool$Folder", rfl, (by decide : 0 < 7), in_X6, q249, Or.inr q250⟩
theorem fl_X0_289 : ∀ ci ∈ [5], aFld RX0 289 ci 0 := by
  intro ci h
  simp only [List.mem_cons, List.not_mem_nil, or_false] at h
  subst h
  exact ⟨(RX6, TX6, 7), "DeadListPool$Bound", rfl, (by decide : 0 < 7), in_X6, q251, Or.inr q252⟩
theorem fl_X0_290 : ∀ ci ∈ [7], aFld RX0 290 ci 0 := by
  intro ci h
  simp only [List.mem_cons, List.not_mem_nil, or_false] at h
  subst h
  exact ⟨(RX8, TX8, 8), "DeadListPool$Tagged", rfl, (by decide : 0 < 8), in_X8, q253, Or.inr q254⟩
theorem fl_X0_119 : ∀ ci ∈ [4, 5, 6, 7], aFld RX0 119 ci 1 := by
  intro ci h
  simp only [List.mem_cons, List.not_mem_nil, or_false] at h
  rcases h with rfl | rfl | rfl | rfl
  · exact ⟨(RX5, TX5, 6), "DeadListPool$Holder", rfl, (by decide : 1 < 6), in_X5, q256, Or.inl rfl⟩
  · exact ⟨(RX6, TX6, 7), "DeadListPool$Holder", rfl, (by decide : 1 < 7), in_X6, q256, Or.inl rfl⟩
  · exact ⟨(RX7, TX7, 7), "DeadListPool$Holder", rfl, (by decide : 1 < 7), in_X7, q256, Or.inl rfl⟩
  · exact ⟨(RX8, TX8, 8), "DeadListPool$Holder", rfl, (by decide : 1 < 8), in_X8, q256, Or.inl rfl⟩
theorem fl_X0_132 : ∀ ci ∈ [4, 5], aFld RX0 132 ci 1 := by
  intro ci h
  simp only [List.mem_cons, List.not_mem_nil, or_false] at h
  rcases h with rfl | rfl
  · exact ⟨(RX5, TX5, 6), "DeadListPool$Folder", rfl, (by decide : 1 < 6), in_X5, q257, Or.inr q258⟩
  · exact ⟨(RX6, TX6, 7), "DeadListPool$Folder", rfl, (by decide : 1 < 7), in_X6, q257, Or.inr q258⟩
theorem fl_X0_310 : ∀ ci ∈ [6, 7], aFld RX0 310 ci 1 := by
  intro ci h
  simp only [List.mem_cons, List.not_mem_nil, or_false] at h
  rcases h with rfl | rfl
  · exact ⟨(RX7, TX7, 7), "DeadListPool$Snapshot", rfl, (by decide : 1 < 7), in_X7, q259, Or.inr q260⟩
  · exact ⟨(RX8, TX8, 8), "DeadListPool$Snapshot", rfl, (by decide : 1 < 8), in_X8, q259, Or.inr q260⟩
theorem fl_X0_125 : ∀ ci ∈ [4, 5, 6, 7], aFld RX0 125 ci 2 := by
  intro ci h
  simp only [List.mem_cons, List.not_mem_nil, or_false] at h
  rcases h with rfl | rfl | rfl | rfl
  · exact ⟨(RX5, TX5, 6), "DeadListPool$Holder", rfl, (by decide : 2 < 6), in_X5, q262, Or.inl rfl⟩
  · exact ⟨(RX6, TX6, 7), "DeadListPool$Holder", rfl, (by decide : 2 < 7), in_X6, q262, Or.inl rfl⟩
  · exact ⟨(RX7, TX7, 7), "DeadListPool$Holder", rfl, (by decide : 2 < 7), in_X7, q262, Or.inl rfl⟩
  · exact ⟨(RX8, TX8, 8), "DeadListPool$Holder", rfl, (by decide : 2 < 8), in_X8, q262, Or.inl rfl⟩
theorem fl_X0_210 : ∀ ci ∈ [6, 7], aFld RX0 210 ci 2 := by
  intro ci h
  simp only [List.mem_cons, List.not_mem_nil, or_false] at h
  rcases h with rfl | rfl
  · exact ⟨(RX7, TX7, 7), "DeadListPool$Snapshot", rfl, (by decide : 2 < 7), in_X7, q263, Or.inr q264⟩
  · exact ⟨(RX8, TX8, 8), "DeadListPool$Snapshot", rfl, (by decide : 2 < 8), in_X8, q263, Or.inr q264⟩
theorem fl_X0_122 : ∀ ci ∈ [4, 5, 6, 7], aFld RX0 122 ci 3 := by
  intro ci h
  simp only [List.mem_cons, List.not_mem_nil, or_false] at h
  rcases h with rfl | rfl | rfl | rfl
  · exact ⟨(RX5, TX5, 6), "DeadListPool$Holder", rfl, (by decide : 3 < 6), in_X5, q266, Or.inl rfl⟩
  · exact ⟨(RX6, TX6, 7), "DeadListPool$Holder", rfl, (by decide : 3 < 7), in_X6, q266, Or.inl rfl⟩
  · exact ⟨(RX7, TX7, 7), "DeadListPool$Holder", rfl, (by decide : 3 < 7), in_X7, q266, Or.inl rfl⟩
  · exact ⟨(RX8, TX8, 8), "DeadListPool$Holder", rfl, (by decide : 3 < 8), in_X8, q266, Or.inl rfl⟩
theorem pt_X0_122 (nm : String) : ∀ ci ∈ [4, 5, 6, 7], aPut RX0 nm 122 ci 3 (.int) := by
  intro ci h
  have h0 := fl_X0_122 ci h
  simp only [List.mem_cons, List.not_mem_nil, or_false] at h
  rcases h with rfl | rfl | rfl | rfl
  · exact ⟨h0, ⟨tyX5, ⟨(RX5, TX5, 6), rfl, tyX5_ok, nmX5⟩, rfl⟩, ⟨(RX5, TX5, 6), rfl, Or.inl rfl⟩⟩
  · exact ⟨h0, ⟨tyX6, ⟨(RX6, TX6, 7), rfl, tyX6_ok, nmX6⟩, rfl⟩, ⟨(RX6, TX6, 7), rfl, Or.inl rfl⟩⟩
  · exact ⟨h0, ⟨tyX7, ⟨(RX7, TX7, 7), rfl, tyX7_ok, nmX7⟩, rfl⟩, ⟨(RX7, TX7, 7), rfl, Or.inl rfl⟩⟩
  · exact ⟨h0, ⟨tyX8, ⟨(RX8, TX8, 8), rfl, tyX8_ok, nmX8⟩, rfl⟩, ⟨(RX8, TX8, 8), rfl, Or.inl rfl⟩⟩
theorem fl_X0_184 : ∀ ci ∈ [4, 5], aFld RX0 184 ci 3 := by
  intro ci h
  simp only [List.mem_cons, List.not_mem_nil, or_false] at h
  rcases h with rfl | rfl
  · exact ⟨(RX5, TX5, 6), "DeadListPool$Folder", rfl, (by decide : 3 < 6), in_X5, q267, Or.inr q268⟩
  · exact ⟨(RX6, TX6, 7), "DeadListPool$Folder", rfl, (by decide : 3 < 7), in_X6, q267, Or.inr q268⟩
theorem pt_X0_184 (nm : String) : ∀ ci ∈ [4, 5], aPut RX0 nm 184 ci 3 (.int) := by
  intro ci h
  have h0 := fl_X0_184 ci h
  simp only [List.mem_cons, List.not_mem_nil, or_false] at h
  rcases h with rfl | rfl
  · exact ⟨h0, ⟨tyX5, ⟨(RX5, TX5, 6), rfl, tyX5_ok, nmX5⟩, rfl⟩, ⟨(RX5, TX5, 6), rfl, Or.inl rfl⟩⟩
  · exact ⟨h0, ⟨tyX6, ⟨(RX6, TX6, 7), rfl, tyX6_ok, nmX6⟩, rfl⟩, ⟨(RX6, TX6, 7), rfl, Or.inl rfl⟩⟩
theorem fl_X0_209 : ∀ ci ∈ [6, 7], aFld RX0 209 ci 3 := by
  intro ci h
  simp only [List.mem_cons, List.not_mem_nil, or_false] at h
  rcases h with rfl | rfl
  · exact ⟨(RX7, TX7, 7), "DeadListPool$Snapshot", rfl, (by decide : 3 < 7), in_X7, q269, Or.inr q270⟩
  · exact ⟨(RX8, TX8, 8), "DeadListPool$Snapshot", rfl, (by decide : 3 < 8), in_X8, q269, Or.inr q270⟩
theorem pt_X0_209 (nm : String) : ∀ ci ∈ [6, 7], aPut RX0 nm 209 ci 3 (.int) := by
  intro ci h
  have h0 := fl_X0_209 ci h
  simp only [List.mem_cons, List.not_mem_nil, or_false] at h
  rcases h with rfl | rfl
  · exact ⟨h0, ⟨tyX7, ⟨(RX7, TX7, 7), rfl, tyX7_ok, nmX7⟩, rfl⟩, ⟨(RX7, TX7, 7), rfl, Or.inl rfl⟩⟩
  · exact ⟨h0, ⟨tyX8, ⟨(RX8, TX8, 8), rfl, tyX8_ok, nmX8⟩, rfl⟩, ⟨(RX8, TX8, 8), rfl, Or.inl rfl⟩⟩
theorem fl_X0_78 : ∀ ci ∈ [4, 5, 6, 7], aFld RX0 78 ci 4 := by
  intro ci h
  simp only [List.mem_cons, List.not_mem_nil, or_false] at h
  rcases h with rfl | rfl | rfl | rfl
  · exact ⟨(RX5, TX5, 6), "DeadListPool$Holder", rfl, (by decide : 4 < 6), in_X5, q271, Or.inl rfl⟩
  · exact ⟨(RX6, TX6, 7), "DeadListPool$Holder", rfl, (by decide : 4 < 7), in_X6, q271, Or.inl rfl⟩
  · exact ⟨(RX7, TX7, 7), "DeadListPool$Holder", rfl, (by decide : 4 < 7), in_X7, q271, Or.inl rfl⟩
  · exact ⟨(RX8, TX8, 8), "DeadListPool$Holder", rfl, (by decide : 4 < 8), in_X8, q271, Or.inl rfl⟩
theorem pt_X0_78 (nm : String) : ∀ ci ∈ [4, 5, 6, 7], aPut RX0 nm 78 ci 4 (.int) := by
  intro ci h
  have h0 := fl_X0_78 ci h
  simp only [List.mem_cons, List.not_mem_nil, or_false] at h
  rcases h with rfl | rfl | rfl | rfl
  · exact ⟨h0, ⟨tyX5, ⟨(RX5, TX5, 6), rfl, tyX5_ok, nmX5⟩, rfl⟩, ⟨(RX5, TX5, 6), rfl, Or.inl rfl⟩⟩
  · exact ⟨h0, ⟨tyX6, ⟨(RX6, TX6, 7), rfl, tyX6_ok, nmX6⟩, rfl⟩, ⟨(RX6, TX6, 7), rfl, Or.inl rfl⟩⟩
  · exact ⟨h0, ⟨tyX7, ⟨(RX7, TX7, 7), rfl, tyX7_ok, nmX7⟩, rfl⟩, ⟨(RX7, TX7, 7), rfl, Or.inl rfl⟩⟩
  · exact ⟨h0, ⟨tyX8, ⟨(RX8, TX8, 8), rfl, tyX8_ok, nmX8⟩, rfl⟩, ⟨(RX8, TX8, 8), rfl, Or.inl rfl⟩⟩
theorem fl_X0_177 : ∀ ci ∈ [4, 5], aFld RX0 177 ci 4 := by
  intro ci h
  simp only [List.mem_cons, List.not_mem_nil, or_false] at h
  rcases h with rfl | rfl
  · exact ⟨(RX5, TX5, 6), "DeadListPool$Folder", rfl, (by decide : 4 < 6), in_X5, q272, Or.inr q273⟩
  · exact ⟨(RX6, TX6, 7), "DeadListPool$Folder", rfl, (by decide : 4 < 7), in_X6, q272, Or.inr q273⟩
theorem pt_X0_177 (nm : String) : ∀ ci ∈ [4, 5], aPut RX0 nm 177 ci 4 (.int) := by
  intro ci h
  have h0 := fl_X0_177 ci h
  simp only [List.mem_cons, List.not_mem_nil, or_false] at h
  rcases h with rfl | rfl
  · exact ⟨h0, ⟨tyX5, ⟨(RX5, TX5, 6), rfl, tyX5_ok, nmX5⟩, rfl⟩, ⟨(RX5, TX5, 6), rfl, Or.inl rfl⟩⟩
  · exact ⟨h0, ⟨tyX6, ⟨(RX6, TX6, 7), rfl, tyX6_ok, nmX6⟩, rfl⟩, ⟨(RX6, TX6, 7), rfl, Or.inl rfl⟩⟩
theorem fl_X0_200 : ∀ ci ∈ [6, 7], aFld RX0 200 ci 4 := by
  intro ci h
  simp only [List.mem_cons, List.not_mem_nil, or_false] at h
  rcases h with rfl | rfl
  · exact ⟨(RX7, TX7, 7), "DeadListPool$Snapshot", rfl, (by decide : 4 < 7), in_X7, q274, Or.inr q275⟩
  · exact ⟨(RX8, TX8, 8), "DeadListPool$Snapshot", rfl, (by decide : 4 < 8), in_X8, q274, Or.inr q275⟩
theorem pt_X0_200 (nm : String) : ∀ ci ∈ [6, 7], aPut RX0 nm 200 ci 4 (.int) := by
  intro ci h
  have h0 := fl_X0_200 ci h
  simp only [List.mem_cons, List.not_mem_nil, or_false] at h
  rcases h with rfl | rfl
  · exact ⟨h0, ⟨tyX7, ⟨(RX7, TX7, 7), rfl, tyX7_ok, nmX7⟩, rfl⟩, ⟨(RX7, TX7, 7), rfl, Or.inl rfl⟩⟩
  · exact ⟨h0, ⟨tyX8, ⟨(RX8, TX8, 8), rfl, tyX8_ok, nmX8⟩, rfl⟩, ⟨(RX8, TX8, 8), rfl, Or.inl rfl⟩⟩
theorem fl_X0_88 : ∀ ci ∈ [4, 5, 6, 7], aFld RX0 88 ci 5 := by
  intro ci h
  simp only [List.mem_cons, List.not_mem_nil, or_false] at h
  rcases h with rfl | rfl | rfl | rfl
  · exact ⟨(RX5, TX5, 6), "DeadListPool$Holder", rfl, (by decide : 5 < 6), in_X5, q279, Or.inl rfl⟩
  · exact ⟨(RX6, TX6, 7), "DeadListPool$Holder", rfl, (by decide : 5 < 7), in_X6, q279, Or.inl rfl⟩
  · exact ⟨(RX7, TX7, 7), "DeadListPool$Holder", rfl, (by decide : 5 < 7), in_X7, q279, Or.inl rfl⟩
  · exact ⟨(RX8, TX8, 8), "DeadListPool$Holder", rfl, (by decide : 5 < 8), in_X8, q279, Or.inl rfl⟩
theorem pt_X0_88 (nm : String) : ∀ ci ∈ [4, 5, 6, 7], aPut RX0 nm 88 ci 5 (.object "DeadListPool$Snapshot") := by
  intro ci h
  have h0 := fl_X0_88 ci h
  simp only [List.mem_cons, List.not_mem_nil, or_false] at h
  rcases h with rfl | rfl | rfl | rfl
  · exact ⟨h0, ⟨tyX5, ⟨(RX5, TX5, 6), rfl, tyX5_ok, nmX5⟩, rfl⟩, ⟨(RX5, TX5, 6), rfl, Or.inl rfl⟩⟩
  · exact ⟨h0, ⟨tyX6, ⟨(RX6, TX6, 7), rfl, tyX6_ok, nmX6⟩, rfl⟩, ⟨(RX6, TX6, 7), rfl, Or.inl rfl⟩⟩
  · exact ⟨h0, ⟨tyX7, ⟨(RX7, TX7, 7), rfl, tyX7_ok, nmX7⟩, rfl⟩, ⟨(RX7, TX7, 7), rfl, Or.inl rfl⟩⟩
  · exact ⟨h0, ⟨tyX8, ⟨(RX8, TX8, 8), rfl, tyX8_ok, nmX8⟩, rfl⟩, ⟨(RX8, TX8, 8), rfl, Or.inl rfl⟩⟩
theorem fl_X0_92 : ∀ ci ∈ [4, 5], aFld RX0 92 ci 5 := by
  intro ci h
  simp only [List.mem_cons, List.not_mem_nil, or_false] at h
  rcases h with rfl | rfl
  · exact ⟨(RX5, TX5, 6), "DeadListPool$Folder", rfl, (by decide : 5 < 6), in_X5, q280, Or.inr q277⟩
  · exact ⟨(RX6, TX6, 7), "DeadListPool$Folder", rfl, (by decide : 5 < 7), in_X6, q280, Or.inr q277⟩
theorem pt_X0_92 (nm : String) : ∀ ci ∈ [4, 5], aPut RX0 nm 92 ci 5 (.object "DeadListPool$Snapshot") := by
  intro ci h
  have h0 := fl_X0_92 ci h
  simp only [List.mem_cons, List.not_mem_nil, or_false] at h
  rcases h with rfl | rfl
  · exact ⟨h0, ⟨tyX5, ⟨(RX5, TX5, 6), rfl, tyX5_ok, nmX5⟩, rfl⟩, ⟨(RX5, TX5, 6), rfl, Or.inl rfl⟩⟩
  · exact ⟨h0, ⟨tyX6, ⟨(RX6, TX6, 7), rfl, tyX6_ok, nmX6⟩, rfl⟩, ⟨(RX6, TX6, 7), rfl, Or.inl rfl⟩⟩
theorem fl_X0_99 : ∀ ci ∈ [6, 7], aFld RX0 99 ci 5 := by
  intro ci h
  simp only [List.mem_cons, List.not_mem_nil, or_false] at h
  rcases h with rfl | rfl
  · exact ⟨(RX7, TX7, 7), "DeadListPool$Snapshot", rfl, (by decide : 5 < 7), in_X7, q281, Or.inr q282⟩
  · exact ⟨(RX8, TX8, 8), "DeadListPool$Snapshot", rfl, (by decide : 5 < 8), in_X8, q281, Or.inr q282⟩
theorem pt_X0_99 (nm : String) : ∀ ci ∈ [6, 7], aPut RX0 nm 99 ci 5 (.object "DeadListPool$Snapshot") := by
  intro ci h
  have h0 := fl_X0_99 ci h
  simp only [List.mem_cons, List.not_mem_nil, or_false] at h
  rcases h with rfl | rfl
  · exact ⟨h0, ⟨tyX7, ⟨(RX7, TX7, 7), rfl, tyX7_ok, nmX7⟩, rfl⟩, ⟨(RX7, TX7, 7), rfl, Or.inl rfl⟩⟩
  · exact ⟨h0, ⟨tyX8, ⟨(RX8, TX8, 8), rfl, tyX8_ok, nmX8⟩, rfl⟩, ⟨(RX8, TX8, 8), rfl, Or.inl rfl⟩⟩
theorem fl_X0_95 : ∀ ci ∈ [6, 7], aFld RX0 95 ci 6 := by
  intro ci h
  simp only [List.mem_cons, List.not_mem_nil, or_false] at h
  rcases h with rfl | rfl
  · exact ⟨(RX7, TX7, 7), "DeadListPool$Snapshot", rfl, (by decide : 6 < 7), in_X7, q557, Or.inl rfl⟩
  · exact ⟨(RX8, TX8, 8), "DeadListPool$Snapshot", rfl, (by decide : 6 < 8), in_X8, q557, Or.inl rfl⟩
theorem pt_X0_95 (nm : String) : ∀ ci ∈ [6, 7], aPut RX0 nm 95 ci 6 (.object "DeadListPool$Folder") := by
  intro ci h
  have h0 := fl_X0_95 ci h
  simp only [List.mem_cons, List.not_mem_nil, or_false] at h
  rcases h with rfl | rfl
  · exact ⟨h0, ⟨tyX7, ⟨(RX7, TX7, 7), rfl, tyX7_ok, nmX7⟩, rfl⟩, ⟨(RX7, TX7, 7), rfl, Or.inl rfl⟩⟩
  · exact ⟨h0, ⟨tyX8, ⟨(RX8, TX8, 8), rfl, tyX8_ok, nmX8⟩, rfl⟩, ⟨(RX8, TX8, 8), rfl, Or.inl rfl⟩⟩
theorem fl_X0_62 : ∀ ci ∈ [8], aFldN RX0 62 ci 0 := by
  intro ci h
  simp only [List.mem_cons, List.not_mem_nil, or_false] at h
  subst h
  exact ⟨(RX9, TX9, 1), "DeadListPool$Bookmark", "DeadListPool", rfl, (by decide : 0 < 1), in_X9, q603, rfl⟩
theorem fl_X2_9 : ∀ ci ∈ [2], aFld RX2 9 ci 0 := by
  intro ci h
  simp only [List.mem_cons, List.not_mem_nil, or_false] at h
  subst h
  exact ⟨(RX2, TX2, 11), "DeadListPool$Copy", rfl, (by decide : 0 < 11), in_X2, q145, Or.inl rfl⟩
theorem pti_X2_9 : ∀ ci ∈ [2], aPut RX2 "<init>" 9 ci 0 (.array (.object "java/lang/Object")) := by
  intro ci h
  have h0 := fl_X2_9 ci h
  simp only [List.mem_cons, List.not_mem_nil, or_false] at h
  subst h
  exact ⟨h0, ⟨tyX2, ⟨(RX2, TX2, 11), rfl, tyX2_ok, nmX2⟩, rfl⟩, ⟨(RX2, TX2, 11), rfl, Or.inr ⟨rfl, rfl, rfl⟩⟩⟩
theorem fl_X2_17 : ∀ ci ∈ [2], aFld RX2 17 ci 1 := by
  intro ci h
  simp only [List.mem_cons, List.not_mem_nil, or_false] at h
  subst h
  exact ⟨(RX2, TX2, 11), "DeadListPool$Copy", rfl, (by decide : 1 < 11), in_X2, q147, Or.inl rfl⟩
theorem pti_X2_17 : ∀ ci ∈ [2], aPut RX2 "<init>" 17 ci 1 (.array (.array .int)) := by
  intro ci h
  have h0 := fl_X2_17 ci h
  simp only [List.mem_cons, List.not_mem_nil, or_false] at h
  subst h
  exact ⟨h0, ⟨tyX2, ⟨(RX2, TX2, 11), rfl, tyX2_ok, nmX2⟩, rfl⟩, ⟨(RX2, TX2, 11), rfl, Or.inr ⟨rfl, rfl, rfl⟩⟩⟩
theorem fl_X2_20 : ∀ ci ∈ [2], aFld RX2 20 ci 2 := by
  intro ci h
  simp only [List.mem_cons, List.not_mem_nil, or_false] at h
  subst h
  exact ⟨(RX2, TX2, 11), "DeadListPool$Copy", rfl, (by decide : 2 < 11), in_X2, q149, Or.inl rfl⟩
theorem pti_X2_20 : ∀ ci ∈ [2], aPut RX2 "<init>" 20 ci 2 (.array (.array .int)) := by
  intro ci h
  have h0 := fl_X2_20 ci h
  simp only [List.mem_cons, List.not_mem_nil, or_false] at h
  subst h
  exact ⟨h0, ⟨tyX2, ⟨(RX2, TX2, 11), rfl, tyX2_ok, nmX2⟩, rfl⟩, ⟨(RX2, TX2, 11), rfl, Or.inr ⟨rfl, rfl, rfl⟩⟩⟩
theorem fl_X2_23 : ∀ ci ∈ [2], aFld RX2 23 ci 3 := by
  intro ci h
  simp only [List.mem_cons, List.not_mem_nil, or_false] at h
  subst h
  exact ⟨(RX2, TX2, 11), "DeadListPool$Copy", rfl, (by decide : 3 < 11), in_X2, q151, Or.inl rfl⟩
theorem pti_X2_23 : ∀ ci ∈ [2], aPut RX2 "<init>" 23 ci 3 (.array .int) := by
  intro ci h
  have h0 := fl_X2_23 ci h
  simp only [List.mem_cons, List.not_mem_nil, or_false] at h
  subst h
  exact ⟨h0, ⟨tyX2, ⟨(RX2, TX2, 11), rfl, tyX2_ok, nmX2⟩, rfl⟩, ⟨(RX2, TX2, 11), rfl, Or.inr ⟨rfl, rfl, rfl⟩⟩⟩
theorem fl_X2_29 : ∀ ci ∈ [2], aFld RX2 29 ci 4 := by
  intro ci h
  simp only [List.mem_cons, List.not_mem_nil, or_false] at h
  subst h
  exact ⟨(RX2, TX2, 11), "DeadListPool$Copy", rfl, (by decide : 4 < 11), in_X2, q153, Or.inl rfl⟩
theorem pti_X2_29 : ∀ ci ∈ [2], aPut RX2 "<init>" 29 ci 4 (.array (.object "DeadListPool$Snapshot")) := by
  intro ci h
  have h0 := fl_X2_29 ci h
  simp only [List.mem_cons, List.not_mem_nil, or_false] at h
  subst h
  exact ⟨h0, ⟨tyX2, ⟨(RX2, TX2, 11), rfl, tyX2_ok, nmX2⟩, rfl⟩, ⟨(RX2, TX2, 11), rfl, Or.inr ⟨rfl, rfl, rfl⟩⟩⟩
theorem fl_X2_35 : ∀ ci ∈ [2], aFld RX2 35 ci 5 := by
  intro ci h
  simp only [List.mem_cons, List.not_mem_nil, or_false] at h
  subst h
  exact ⟨(RX2, TX2, 11), "DeadListPool$Copy", rfl, (by decide : 5 < 11), in_X2, q155, Or.inl rfl⟩
theorem pti_X2_35 : ∀ ci ∈ [2], aPut RX2 "<init>" 35 ci 5 (.array (.object "DeadListPool$Folder")) := by
  intro ci h
  have h0 := fl_X2_35 ci h
  simp only [List.mem_cons, List.not_mem_nil, or_false] at h
  subst h
  exact ⟨h0, ⟨tyX2, ⟨(RX2, TX2, 11), rfl, tyX2_ok, nmX2⟩, rfl⟩, ⟨(RX2, TX2, 11), rfl, Or.inr ⟨rfl, rfl, rfl⟩⟩⟩
theorem fl_X2_39 : ∀ ci ∈ [2], aFld RX2 39 ci 6 := by
  intro ci h
  simp only [List.mem_cons, List.not_mem_nil, or_false] at h
  subst h
  exact ⟨(RX2, TX2, 11), "DeadListPool$Copy", rfl, (by decide : 6 < 11), in_X2, q157, Or.inl rfl⟩
theorem pti_X2_39 : ∀ ci ∈ [2], aPut RX2 "<init>" 39 ci 6 (.array .int) := by
  intro ci h
  have h0 := fl_X2_39 ci h
  simp only [List.mem_cons, List.not_mem_nil, or_false] at h
  subst h
  exact ⟨h0, ⟨tyX2, ⟨(RX2, TX2, 11), rfl, tyX2_ok, nmX2⟩, rfl⟩, ⟨(RX2, TX2, 11), rfl, Or.inr ⟨rfl, rfl, rfl⟩⟩⟩
theorem fl_X2_42 : ∀ ci ∈ [2], aFld RX2 42 ci 7 := by
  intro ci h
  simp only [List.mem_cons, List.not_mem_nil, or_false] at h
  subst h
  exact ⟨(RX2, TX2, 11), "DeadListPool$Copy", rfl, (by decide : 7 < 11), in_X2, q159, Or.inl rfl⟩
theorem pti_X2_42 : ∀ ci ∈ [2], aPut RX2 "<init>" 42 ci 7 (.array .int) := by
  intro ci h
  have h0 := fl_X2_42 ci h
  simp only [List.mem_cons, List.not_mem_nil, or_false] at h
  subst h
  exact ⟨h0, ⟨tyX2, ⟨(RX2, TX2, 11), rfl, tyX2_ok, nmX2⟩, rfl⟩, ⟨(RX2, TX2, 11), rfl, Or.inr ⟨rfl, rfl, rfl⟩⟩⟩
theorem fl_X2_45 : ∀ ci ∈ [2], aFld RX2 45 ci 8 := by
  intro ci h
  simp only [List.mem_cons, List.not_mem_nil, or_false] at h
  subst h
  exact ⟨(RX2, TX2, 11), "DeadListPool$Copy", rfl, (by decide : 8 < 11), in_X2, q161, Or.inl rfl⟩
theorem pti_X2_45 : ∀ ci ∈ [2], aPut RX2 "<init>" 45 ci 8 (.array .int) := by
  intro ci h
  have h0 := fl_X2_45 ci h
  simp only [List.mem_cons, List.not_mem_nil, or_false] at h
  subst h
  exact ⟨h0, ⟨tyX2, ⟨(RX2, TX2, 11), rfl, tyX2_ok, nmX2⟩, rfl⟩, ⟨(RX2, TX2, 11), rfl, Or.inr ⟨rfl, rfl, rfl⟩⟩⟩
theorem fl_X3_7 : ∀ ci ∈ [3], aFld RX3 7 ci 1 := by
  intro ci h
  simp only [List.mem_cons, List.not_mem_nil, or_false] at h
  subst h
  exact ⟨(RX3, TX3, 13), "DeadListPoolModel", rfl, (by decide : 1 < 13), in_X3, q1033, Or.inl rfl⟩
theorem pti_X3_7 : ∀ ci ∈ [3], aPut RX3 "<init>" 7 ci 1 (.array .int) := by
  intro ci h
  have h0 := fl_X3_7 ci h
  simp only [List.mem_cons, List.not_mem_nil, or_false] at h
  subst h
  exact ⟨h0, ⟨tyX3, ⟨(RX3, TX3, 13), rfl, tyX3_ok, nmX3⟩, rfl⟩, ⟨(RX3, TX3, 13), rfl, Or.inr ⟨rfl, rfl, rfl⟩⟩⟩
theorem fl_X3_13 : ∀ ci ∈ [3], aFld RX3 13 ci 2 := by
  intro ci h
  simp only [List.mem_cons, List.not_mem_nil, or_false] at h
  subst h
  exact ⟨(RX3, TX3, 13), "DeadListPoolModel", rfl, (by decide : 2 < 13), in_X3, q1034, Or.inl rfl⟩
theorem pti_X3_13 : ∀ ci ∈ [3], aPut RX3 "<init>" 13 ci 2 (.array .int) := by
  intro ci h
  have h0 := fl_X3_13 ci h
  simp only [List.mem_cons, List.not_mem_nil, or_false] at h
  subst h
  exact ⟨h0, ⟨tyX3, ⟨(RX3, TX3, 13), rfl, tyX3_ok, nmX3⟩, rfl⟩, ⟨(RX3, TX3, 13), rfl, Or.inr ⟨rfl, rfl, rfl⟩⟩⟩
theorem fl_X3_16 : ∀ ci ∈ [3], aFld RX3 16 ci 3 := by
  intro ci h
  simp only [List.mem_cons, List.not_mem_nil, or_false] at h
  subst h
  exact ⟨(RX3, TX3, 13), "DeadListPoolModel", rfl, (by decide : 3 < 13), in_X3, q1035, Or.inl rfl⟩
theorem pti_X3_16 : ∀ ci ∈ [3], aPut RX3 "<init>" 16 ci 3 (.array .int) := by
  intro ci h
  have h0 := fl_X3_16 ci h
  simp only [List.mem_cons, List.not_mem_nil, or_false] at h
  subst h
  exact ⟨h0, ⟨tyX3, ⟨(RX3, TX3, 13), rfl, tyX3_ok, nmX3⟩, rfl⟩, ⟨(RX3, TX3, 13), rfl, Or.inr ⟨rfl, rfl, rfl⟩⟩⟩
theorem fl_X3_213 : ∀ ci ∈ [3], aFld RX3 213 ci 4 := by
  intro ci h
  simp only [List.mem_cons, List.not_mem_nil, or_false] at h
  subst h
  exact ⟨(RX3, TX3, 13), "DeadListPoolModel", rfl, (by decide : 4 < 13), in_X3, q1036, Or.inl rfl⟩
theorem pt_X3_213 (nm : String) : ∀ ci ∈ [3], aPut RX3 nm 213 ci 4 (.boolean) := by
  intro ci h
  have h0 := fl_X3_213 ci h
  simp only [List.mem_cons, List.not_mem_nil, or_false] at h
  subst h
  exact ⟨h0, ⟨tyX3, ⟨(RX3, TX3, 13), rfl, tyX3_ok, nmX3⟩, rfl⟩, ⟨(RX3, TX3, 13), rfl, Or.inl rfl⟩⟩
theorem fl_X3_19 : ∀ ci ∈ [3], aFld RX3 19 ci 5 := by
  intro ci h
  simp only [List.mem_cons, List.not_mem_nil, or_false] at h
  subst h
  exact ⟨(RX3, TX3, 13), "DeadListPoolModel", rfl, (by decide : 5 < 13), in_X3, q1037, Or.inl rfl⟩
theorem pti_X3_19 : ∀ ci ∈ [3], aPut RX3 "<init>" 19 ci 5 (.array .int) := by
  intro ci h
  have h0 := fl_X3_19 ci h
  simp only [List.mem_cons, List.not_mem_nil, or_false] at h
  subst h
  exact ⟨h0, ⟨tyX3, ⟨(RX3, TX3, 13), rfl, tyX3_ok, nmX3⟩, rfl⟩, ⟨(RX3, TX3, 13), rfl, Or.inr ⟨rfl, rfl, rfl⟩⟩⟩
theorem fl_X3_22 : ∀ ci ∈ [3], aFld RX3 22 ci 6 := by
  intro ci h
  simp only [List.mem_cons, List.not_mem_nil, or_false] at h
  subst h
  exact ⟨(RX3, TX3, 13), "DeadListPoolModel", rfl, (by decide : 6 < 13), in_X3, q1038, Or.inl rfl⟩
theorem pti_X3_22 : ∀ ci ∈ [3], aPut RX3 "<init>" 22 ci 6 (.array .int) := by
  intro ci h
  have h0 := fl_X3_22 ci h
  simp only [List.mem_cons, List.not_mem_nil, or_false] at h
  subst h
  exact ⟨h0, ⟨tyX3, ⟨(RX3, TX3, 13), rfl, tyX3_ok, nmX3⟩, rfl⟩, ⟨(RX3, TX3, 13), rfl, Or.inr ⟨rfl, rfl, rfl⟩⟩⟩
theorem fl_X3_139 : ∀ ci ∈ [3], aFld RX3 139 ci 7 := by
  intro ci h
  simp only [List.mem_cons, List.not_mem_nil, or_false] at h
  subst h
  exact ⟨(RX3, TX3, 13), "DeadListPoolModel", rfl, (by decide : 7 < 13), in_X3, q1039, Or.inl rfl⟩
theorem pt_X3_139 (nm : String) : ∀ ci ∈ [3], aPut RX3 nm 139 ci 7 (.int) := by
  intro ci h
  have h0 := fl_X3_139 ci h
  simp only [List.mem_cons, List.not_mem_nil, or_false] at h
  subst h
  exact ⟨h0, ⟨tyX3, ⟨(RX3, TX3, 13), rfl, tyX3_ok, nmX3⟩, rfl⟩, ⟨(RX3, TX3, 13), rfl, Or.inl rfl⟩⟩
theorem fl_X3_25 : ∀ ci ∈ [3], aFld RX3 25 ci 8 := by
  intro ci h
  simp only [List.mem_cons, List.not_mem_nil, or_false] at h
  subst h
  exact ⟨(RX3, TX3, 13), "DeadListPoolModel", rfl, (by decide : 8 < 13), in_X3, q1040, Or.inl rfl⟩
theorem pti_X3_25 : ∀ ci ∈ [3], aPut RX3 "<init>" 25 ci 8 (.array .int) := by
  intro ci h
  have h0 := fl_X3_25 ci h
  simp only [List.mem_cons, List.not_mem_nil, or_false] at h
  subst h
  exact ⟨h0, ⟨tyX3, ⟨(RX3, TX3, 13), rfl, tyX3_ok, nmX3⟩, rfl⟩, ⟨(RX3, TX3, 13), rfl, Or.inr ⟨rfl, rfl, rfl⟩⟩⟩
theorem fl_X3_28 : ∀ ci ∈ [3], aFld RX3 28 ci 9 := by
  intro ci h
  simp only [List.mem_cons, List.not_mem_nil, or_false] at h
  subst h
  exact ⟨(RX3, TX3, 13), "DeadListPoolModel", rfl, (by decide : 9 < 13), in_X3, q1041, Or.inl rfl⟩
theorem pti_X3_28 : ∀ ci ∈ [3], aPut RX3 "<init>" 28 ci 9 (.array .int) := by
  intro ci h
  have h0 := fl_X3_28 ci h
  simp only [List.mem_cons, List.not_mem_nil, or_false] at h
  subst h
  exact ⟨h0, ⟨tyX3, ⟨(RX3, TX3, 13), rfl, tyX3_ok, nmX3⟩, rfl⟩, ⟨(RX3, TX3, 13), rfl, Or.inr ⟨rfl, rfl, rfl⟩⟩⟩
theorem fl_X3_31 : ∀ ci ∈ [3], aFld RX3 31 ci 10 := by
  intro ci h
  simp only [List.mem_cons, List.not_mem_nil, or_false] at h
  subst h
  exact ⟨(RX3, TX3, 13), "DeadListPoolModel", rfl, (by decide : 10 < 13), in_X3, q1042, Or.inl rfl⟩
theorem pti_X3_31 : ∀ ci ∈ [3], aPut RX3 "<init>" 31 ci 10 (.array .int) := by
  intro ci h
  have h0 := fl_X3_31 ci h
  simp only [List.mem_cons, List.not_mem_nil, or_false] at h
  subst h
  exact ⟨h0, ⟨tyX3, ⟨(RX3, TX3, 13), rfl, tyX3_ok, nmX3⟩, rfl⟩, ⟨(RX3, TX3, 13), rfl, Or.inr ⟨rfl, rfl, rfl⟩⟩⟩
theorem fl_X3_34 : ∀ ci ∈ [3], aFld RX3 34 ci 11 := by
  intro ci h
  simp only [List.mem_cons, List.not_mem_nil, or_false] at h
  subst h
  exact ⟨(RX3, TX3, 13), "DeadListPoolModel", rfl, (by decide : 11 < 13), in_X3, q1043, Or.inl rfl⟩
theorem pti_X3_34 : ∀ ci ∈ [3], aPut RX3 "<init>" 34 ci 11 (.array .long) := by
  intro ci h
  have h0 := fl_X3_34 ci h
  simp only [List.mem_cons, List.not_mem_nil, or_false] at h
  subst h
  exact ⟨h0, ⟨tyX3, ⟨(RX3, TX3, 13), rfl, tyX3_ok, nmX3⟩, rfl⟩, ⟨(RX3, TX3, 13), rfl, Or.inr ⟨rfl, rfl, rfl⟩⟩⟩
theorem fl_X3_173 : ∀ ci ∈ [3], aFld RX3 173 ci 12 := by
  intro ci h
  simp only [List.mem_cons, List.not_mem_nil, or_false] at h
  subst h
  exact ⟨(RX3, TX3, 13), "DeadListPoolModel", rfl, (by decide : 12 < 13), in_X3, q1044, Or.inl rfl⟩
theorem pt_X3_173 (nm : String) : ∀ ci ∈ [3], aPut RX3 nm 173 ci 12 (.int) := by
  intro ci h
  have h0 := fl_X3_173 ci h
  simp only [List.mem_cons, List.not_mem_nil, or_false] at h
  subst h
  exact ⟨h0, ⟨tyX3, ⟨(RX3, TX3, 13), rfl, tyX3_ok, nmX3⟩, rfl⟩, ⟨(RX3, TX3, 13), rfl, Or.inl rfl⟩⟩
theorem fl_X4_18 : ∀ ci ∈ [4, 5, 6, 7], aFld RX4 18 ci 0 := by
  intro ci h
  simp only [List.mem_cons, List.not_mem_nil, or_false] at h
  rcases h with rfl | rfl | rfl | rfl
  · exact ⟨(RX5, TX5, 6), "DeadListPool$Holder", rfl, (by decide : 0 < 6), in_X5, q244, Or.inl rfl⟩
  · exact ⟨(RX6, TX6, 7), "DeadListPool$Holder", rfl, (by decide : 0 < 7), in_X6, q244, Or.inl rfl⟩
  · exact ⟨(RX7, TX7, 7), "DeadListPool$Holder", rfl, (by decide : 0 < 7), in_X7, q244, Or.inl rfl⟩
  · exact ⟨(RX8, TX8, 8), "DeadListPool$Holder", rfl, (by decide : 0 < 8), in_X8, q244, Or.inl rfl⟩
theorem pti_X4_18 : ∀ ci ∈ [4, 5, 6, 7], aPut RX4 "<init>" 18 ci 0 (.int) := by
  intro ci h
  have h0 := fl_X4_18 ci h
  simp only [List.mem_cons, List.not_mem_nil, or_false] at h
  rcases h with rfl | rfl | rfl | rfl
  · exact ⟨h0, ⟨tyX5, ⟨(RX5, TX5, 6), rfl, tyX5_ok, nmX5⟩, rfl⟩, ⟨(RX5, TX5, 6), rfl, Or.inr ⟨rfl, rfl, rfl⟩⟩⟩
  · exact ⟨h0, ⟨tyX6, ⟨(RX6, TX6, 7), rfl, tyX6_ok, nmX6⟩, rfl⟩, ⟨(RX6, TX6, 7), rfl, Or.inr ⟨rfl, rfl, rfl⟩⟩⟩
  · exact ⟨h0, ⟨tyX7, ⟨(RX7, TX7, 7), rfl, tyX7_ok, nmX7⟩, rfl⟩, ⟨(RX7, TX7, 7), rfl, Or.inr ⟨rfl, rfl, rfl⟩⟩⟩
  · exact ⟨h0, ⟨tyX8, ⟨(RX8, TX8, 8), rfl, tyX8_ok, nmX8⟩, rfl⟩, ⟨(RX8, TX8, 8), rfl, Or.inr ⟨rfl, rfl, rfl⟩⟩⟩
theorem fl_X4_26 : ∀ ci ∈ [6, 7], aFld RX4 26 ci 0 := by
  intro ci h
  simp only [List.mem_cons, List.not_mem_nil, or_false] at h
  rcases h with rfl | rfl
  · exact ⟨(RX7, TX7, 7), "DeadListPool$Snapshot", rfl, (by decide : 0 < 7), in_X7, q245, Or.inr q246⟩
  · exact ⟨(RX8, TX8, 8), "DeadListPool$Snapshot", rfl, (by decide : 0 < 8), in_X8, q245, Or.inr q246⟩
theorem pti_X4_26 : ∀ ci ∈ [6, 7], aPut RX4 "<init>" 26 ci 0 (.int) := by
  intro ci h
  have h0 := fl_X4_26 ci h
  simp only [List.mem_cons, List.not_mem_nil, or_false] at h
  rcases h with rfl | rfl
  · exact ⟨h0, ⟨tyX7, ⟨(RX7, TX7, 7), rfl, tyX7_ok, nmX7⟩, rfl⟩, ⟨(RX7, TX7, 7), rfl, Or.inr ⟨rfl, rfl, rfl⟩⟩⟩
  · exact ⟨h0, ⟨tyX8, ⟨(RX8, TX8, 8), rfl, tyX8_ok, nmX8⟩, rfl⟩, ⟨(RX8, TX8, 8), rfl, Or.inr ⟨rfl, rfl, rfl⟩⟩⟩
theorem fl_X4_9 : ∀ ci ∈ [4, 5, 6, 7], aFld RX4 9 ci 1 := by
  intro ci h
  simp only [List.mem_cons, List.not_mem_nil, or_false] at h
  rcases h with rfl | rfl | rfl | rfl
  · exact ⟨(RX5, TX5, 6), "DeadListPool$Holder", rfl, (by decide : 1 < 6), in_X5, q255, Or.inl rfl⟩
  · exact ⟨(RX6, TX6, 7), "DeadListPool$Holder", rfl, (by decide : 1 < 7), in_X6, q255, Or.inl rfl⟩
  · exact ⟨(RX7, TX7, 7), "DeadListPool$Holder", rfl, (by decide : 1 < 7), in_X7, q255, Or.inl rfl⟩
  · exact ⟨(RX8, TX8, 8), "DeadListPool$Holder", rfl, (by decide : 1 < 8), in_X8, q255, Or.inl rfl⟩
theorem pti_X4_9 : ∀ ci ∈ [4, 5, 6, 7], aPut RX4 "<init>" 9 ci 1 (.array .int) := by
  intro ci h
  have h0 := fl_X4_9 ci h
  simp only [List.mem_cons, List.not_mem_nil, or_false] at h
  rcases h with rfl | rfl | rfl | rfl
  · exact ⟨h0, ⟨tyX5, ⟨(RX5, TX5, 6), rfl, tyX5_ok, nmX5⟩, rfl⟩, ⟨(RX5, TX5, 6), rfl, Or.inr ⟨rfl, rfl, rfl⟩⟩⟩
  · exact ⟨h0, ⟨tyX6, ⟨(RX6, TX6, 7), rfl, tyX6_ok, nmX6⟩, rfl⟩, ⟨(RX6, TX6, 7), rfl, Or.inr ⟨rfl, rfl, rfl⟩⟩⟩
  · exact ⟨h0, ⟨tyX7, ⟨(RX7, TX7, 7), rfl, tyX7_ok, nmX7⟩, rfl⟩, ⟨(RX7, TX7, 7), rfl, Or.inr ⟨rfl, rfl, rfl⟩⟩⟩
  · exact ⟨h0, ⟨tyX8, ⟨(RX8, TX8, 8), rfl, tyX8_ok, nmX8⟩, rfl⟩, ⟨(RX8, TX8, 8), rfl, Or.inr ⟨rfl, rfl, rfl⟩⟩⟩
theorem fl_X4_15 : ∀ ci ∈ [4, 5, 6, 7], aFld RX4 15 ci 2 := by
  intro ci h
  simp only [List.mem_cons, List.not_mem_nil, or_false] at h
  rcases h with rfl | rfl | rfl | rfl
  · exact ⟨(RX5, TX5, 6), "DeadListPool$Holder", rfl, (by decide : 2 < 6), in_X5, q261, Or.inl rfl⟩
  · exact ⟨(RX6, TX6, 7), "DeadListPool$Holder", rfl, (by decide : 2 < 7), in_X6, q261, Or.inl rfl⟩
  · exact ⟨(RX7, TX7, 7), "DeadListPool$Holder", rfl, (by decide : 2 < 7), in_X7, q261, Or.inl rfl⟩
  · exact ⟨(RX8, TX8, 8), "DeadListPool$Holder", rfl, (by decide : 2 < 8), in_X8, q261, Or.inl rfl⟩
theorem pti_X4_15 : ∀ ci ∈ [4, 5, 6, 7], aPut RX4 "<init>" 15 ci 2 (.array .int) := by
  intro ci h
  have h0 := fl_X4_15 ci h
  simp only [List.mem_cons, List.not_mem_nil, or_false] at h
  rcases h with rfl | rfl | rfl | rfl
  · exact ⟨h0, ⟨tyX5, ⟨(RX5, TX5, 6), rfl, tyX5_ok, nmX5⟩, rfl⟩, ⟨(RX5, TX5, 6), rfl, Or.inr ⟨rfl, rfl, rfl⟩⟩⟩
  · exact ⟨h0, ⟨tyX6, ⟨(RX6, TX6, 7), rfl, tyX6_ok, nmX6⟩, rfl⟩, ⟨(RX6, TX6, 7), rfl, Or.inr ⟨rfl, rfl, rfl⟩⟩⟩
  · exact ⟨h0, ⟨tyX7, ⟨(RX7, TX7, 7), rfl, tyX7_ok, nmX7⟩, rfl⟩, ⟨(RX7, TX7, 7), rfl, Or.inr ⟨rfl, rfl, rfl⟩⟩⟩
  · exact ⟨h0, ⟨tyX8, ⟨(RX8, TX8, 8), rfl, tyX8_ok, nmX8⟩, rfl⟩, ⟨(RX8, TX8, 8), rfl, Or.inr ⟨rfl, rfl, rfl⟩⟩⟩
theorem fl_X4_29 : ∀ ci ∈ [4, 5, 6, 7], aFld RX4 29 ci 3 := by
  intro ci h
  simp only [List.mem_cons, List.not_mem_nil, or_false] at h
  rcases h with rfl | rfl | rfl | rfl
  · exact ⟨(RX5, TX5, 6), "DeadListPool$Holder", rfl, (by decide : 3 < 6), in_X5, q265, Or.inl rfl⟩
  · exact ⟨(RX6, TX6, 7), "DeadListPool$Holder", rfl, (by decide : 3 < 7), in_X6, q265, Or.inl rfl⟩
  · exact ⟨(RX7, TX7, 7), "DeadListPool$Holder", rfl, (by decide : 3 < 7), in_X7, q265, Or.inl rfl⟩
  · exact ⟨(RX8, TX8, 8), "DeadListPool$Holder", rfl, (by decide : 3 < 8), in_X8, q265, Or.inl rfl⟩
theorem pt_X4_29 (nm : String) : ∀ ci ∈ [4, 5, 6, 7], aPut RX4 nm 29 ci 3 (.int) := by
  intro ci h
  have h0 := fl_X4_29 ci h
  simp only [List.mem_cons, List.not_mem_nil, or_false] at h
  rcases h with rfl | rfl | rfl | rfl
  · exact ⟨h0, ⟨tyX5, ⟨(RX5, TX5, 6), rfl, tyX5_ok, nmX5⟩, rfl⟩, ⟨(RX5, TX5, 6), rfl, Or.inl rfl⟩⟩
  · exact ⟨h0, ⟨tyX6, ⟨(RX6, TX6, 7), rfl, tyX6_ok, nmX6⟩, rfl⟩, ⟨(RX6, TX6, 7), rfl, Or.inl rfl⟩⟩
  · exact ⟨h0, ⟨tyX7, ⟨(RX7, TX7, 7), rfl, tyX7_ok, nmX7⟩, rfl⟩, ⟨(RX7, TX7, 7), rfl, Or.inl rfl⟩⟩
  · exact ⟨h0, ⟨tyX8, ⟨(RX8, TX8, 8), rfl, tyX8_ok, nmX8⟩, rfl⟩, ⟨(RX8, TX8, 8), rfl, Or.inl rfl⟩⟩
theorem fl_X4_22 : ∀ ci ∈ [4, 5, 6, 7], aFld RX4 22 ci 5 := by
  intro ci h
  simp only [List.mem_cons, List.not_mem_nil, or_false] at h
  rcases h with rfl | rfl | rfl | rfl
  · exact ⟨(RX5, TX5, 6), "DeadListPool$Holder", rfl, (by decide : 5 < 6), in_X5, q278, Or.inl rfl⟩
  · exact ⟨(RX6, TX6, 7), "DeadListPool$Holder", rfl, (by decide : 5 < 7), in_X6, q278, Or.inl rfl⟩
  · exact ⟨(RX7, TX7, 7), "DeadListPool$Holder", rfl, (by decide : 5 < 7), in_X7, q278, Or.inl rfl⟩
  · exact ⟨(RX8, TX8, 8), "DeadListPool$Holder", rfl, (by decide : 5 < 8), in_X8, q278, Or.inl rfl⟩
theorem pt_X4_22 (nm : String) : ∀ ci ∈ [4, 5, 6, 7], aPut RX4 nm 22 ci 5 (.object "DeadListPool$Snapshot") := by
  intro ci h
  have h0 := fl_X4_22 ci h
  simp only [List.mem_cons, List.not_mem_nil, or_false] at h
  rcases h with rfl | rfl | rfl | rfl
  · exact ⟨h0, ⟨tyX5, ⟨(RX5, TX5, 6), rfl, tyX5_ok, nmX5⟩, rfl⟩, ⟨(RX5, TX5, 6), rfl, Or.inl rfl⟩⟩
  · exact ⟨h0, ⟨tyX6, ⟨(RX6, TX6, 7), rfl, tyX6_ok, nmX6⟩, rfl⟩, ⟨(RX6, TX6, 7), rfl, Or.inl rfl⟩⟩
  · exact ⟨h0, ⟨tyX7, ⟨(RX7, TX7, 7), rfl, tyX7_ok, nmX7⟩, rfl⟩, ⟨(RX7, TX7, 7), rfl, Or.inl rfl⟩⟩
  · exact ⟨h0, ⟨tyX8, ⟨(RX8, TX8, 8), rfl, tyX8_ok, nmX8⟩, rfl⟩, ⟨(RX8, TX8, 8), rfl, Or.inl rfl⟩⟩
theorem fl_X6_7 : ∀ ci ∈ [5], aFld RX6 7 ci 6 := by
  intro ci h
  simp only [List.mem_cons, List.not_mem_nil, or_false] at h
  subst h
  exact ⟨(RX6, TX6, 7), "DeadListPool$Bound", rfl, (by decide : 6 < 7), in_X6, q302, Or.inl rfl⟩
theorem pti_X6_7 : ∀ ci ∈ [5], aPut RX6 "<init>" 7 ci 6 (.int) := by
  intro ci h
  have h0 := fl_X6_7 ci h
  simp only [List.mem_cons, List.not_mem_nil, or_false] at h
  subst h
  exact ⟨h0, ⟨tyX6, ⟨(RX6, TX6, 7), rfl, tyX6_ok, nmX6⟩, rfl⟩, ⟨(RX6, TX6, 7), rfl, Or.inr ⟨rfl, rfl, rfl⟩⟩⟩
theorem fl_X7_1 : ∀ ci ∈ [4, 5], aFld RX7 1 ci 5 := by
  intro ci h
  simp only [List.mem_cons, List.not_mem_nil, or_false] at h
  rcases h with rfl | rfl
  · exact ⟨(RX5, TX5, 6), "DeadListPool$Folder", rfl, (by decide : 5 < 6), in_X5, q276, Or.inr q277⟩
  · exact ⟨(RX6, TX6, 7), "DeadListPool$Folder", rfl, (by decide : 5 < 7), in_X6, q276, Or.inr q277⟩
theorem pt_X7_1 (nm : String) : ∀ ci ∈ [4, 5], aPut RX7 nm 1 ci 5 (.object "DeadListPool$Snapshot") := by
  intro ci h
  have h0 := fl_X7_1 ci h
  simp only [List.mem_cons, List.not_mem_nil, or_false] at h
  rcases h with rfl | rfl
  · exact ⟨h0, ⟨tyX5, ⟨(RX5, TX5, 6), rfl, tyX5_ok, nmX5⟩, rfl⟩, ⟨(RX5, TX5, 6), rfl, Or.inl rfl⟩⟩
  · exact ⟨h0, ⟨tyX6, ⟨(RX6, TX6, 7), rfl, tyX6_ok, nmX6⟩, rfl⟩, ⟨(RX6, TX6, 7), rfl, Or.inl rfl⟩⟩
theorem fl_X7_13 : ∀ ci ∈ [6, 7], aFld RX7 13 ci 6 := by
  intro ci h
  simp only [List.mem_cons, List.not_mem_nil, or_false] at h
  rcases h with rfl | rfl
  · exact ⟨(RX7, TX7, 7), "DeadListPool$Snapshot", rfl, (by decide : 6 < 7), in_X7, q556, Or.inl rfl⟩
  · exact ⟨(RX8, TX8, 8), "DeadListPool$Snapshot", rfl, (by decide : 6 < 8), in_X8, q556, Or.inl rfl⟩
theorem pt_X7_13 (nm : String) : ∀ ci ∈ [6, 7], aPut RX7 nm 13 ci 6 (.object "DeadListPool$Folder") := by
  intro ci h
  have h0 := fl_X7_13 ci h
  simp only [List.mem_cons, List.not_mem_nil, or_false] at h
  rcases h with rfl | rfl
  · exact ⟨h0, ⟨tyX7, ⟨(RX7, TX7, 7), rfl, tyX7_ok, nmX7⟩, rfl⟩, ⟨(RX7, TX7, 7), rfl, Or.inl rfl⟩⟩
  · exact ⟨h0, ⟨tyX8, ⟨(RX8, TX8, 8), rfl, tyX8_ok, nmX8⟩, rfl⟩, ⟨(RX8, TX8, 8), rfl, Or.inl rfl⟩⟩
theorem fl_X8_7 : ∀ ci ∈ [7], aFld RX8 7 ci 7 := by
  intro ci h
  simp only [List.mem_cons, List.not_mem_nil, or_false] at h
  subst h
  exact ⟨(RX8, TX8, 8), "DeadListPool$Tagged", rfl, (by decide : 7 < 8), in_X8, q555, Or.inl rfl⟩
theorem pt_X8_7 (nm : String) : ∀ ci ∈ [7], aPut RX8 nm 7 ci 7 (.int) := by
  intro ci h
  have h0 := fl_X8_7 ci h
  simp only [List.mem_cons, List.not_mem_nil, or_false] at h
  subst h
  exact ⟨h0, ⟨tyX8, ⟨(RX8, TX8, 8), rfl, tyX8_ok, nmX8⟩, rfl⟩, ⟨(RX8, TX8, 8), rfl, Or.inl rfl⟩⟩
theorem fl_X9_7 : ∀ ci ∈ [8], aFld RX9 7 ci 0 := by
  intro ci h
  simp only [List.mem_cons, List.not_mem_nil, or_false] at h
  subst h
  exact ⟨(RX9, TX9, 1), "DeadListPool$Bookmark", rfl, (by decide : 0 < 1), in_X9, q602, Or.inl rfl⟩
theorem pti_X9_7 : ∀ ci ∈ [8], aPut RX9 "<init>" 7 ci 0 (.int) := by
  intro ci h
  have h0 := fl_X9_7 ci h
  simp only [List.mem_cons, List.not_mem_nil, or_false] at h
  subst h
  exact ⟨h0, ⟨tyX9, ⟨(RX9, TX9, 1), rfl, tyX9_ok, nmX9⟩, rfl⟩, ⟨(RX9, TX9, 1), rfl, Or.inr ⟨rfl, rfl, rfl⟩⟩⟩
