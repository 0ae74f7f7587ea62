/-! ===== bits of an int ===== -/
def tb (x : Int32) (k : Nat) : Bool := x.toBitVec.getLsbD k
theorem tb_or (x y : Int32) (k : Nat) : tb (x ||| y) k = (tb x k || tb y k) := by
  unfold tb
  rw [Int32.toBitVec_or, BitVec.getLsbD_or]
theorem tb_0 (k : Nat) : tb 0 k = false := by
  unfold tb
  show (0#32).getLsbD k = false
  simp
theorem sh_e : ∀ j : Fin 32, ((1 : Int32) <<< (nI j.val &&& 31)).toBitVec = BitVec.twoPow 32 j.val := by decide +kernel
theorem sr_e : ∀ j : Fin 32, (((nI j.val &&& 31) : Int32).toBitVec.smod 32) = BitVec.ofNat 32 j.val := by decide +kernel
theorem tb_1s {j k : Nat} (hj : j < 32) : tb (1 <<< (nI j &&& 31)) k = (decide (k < 32) && decide (j = k)) := by
  unfold tb
  rw [sh_e ⟨j, hj⟩, BitVec.getLsbD_twoPow]
  by_cases h : j = k
  · subst h
    simp [hj]
  · simp [h]
theorem tb_ext {x y : Int32} (h : ∀ k, k < 32 → tb x k = tb y k) : x = y := by
  apply Int32.toBitVec_inj.mp
  apply BitVec.eq_of_getLsbD_eq
  exact fun k hk => h k hk
theorem tb_and (x y : Int32) (k : Nat) : tb (x &&& y) k = (tb x k && tb y k) := by
  unfold tb
  rw [Int32.toBitVec_and, BitVec.getLsbD_and]
theorem tb_xor (x y : Int32) (k : Nat) : tb (x ^^^ y) k = (tb x k).xor (tb y k) := by
  unfold tb
  rw [Int32.toBitVec_xor, BitVec.getLsbD_xor]
theorem tb_m1 {k : Nat} (h : k < 32) : tb (-1) k = true := by
  have : ∀ j : Fin 32, tb (-1) j.val = true := by decide +kernel
  exact this ⟨k, h⟩
theorem tb_1 (k : Nat) : tb 1 k = decide (k = 0) := by
  unfold tb
  show (1#32).getLsbD k = _
  rw [BitVec.getLsbD_one]
  by_cases h : k = 0
  · subst h; rfl
  · simp [h]
theorem tb_shr {x : Int32} {j : Nat} (hj : j < 32) : tb (x >>> (nI j &&& 31)) 0 = tb x j := by
  unfold tb
  rw [Int32.toBitVec_shiftRight, sr_e ⟨j, hj⟩, BitVec.sshiftRight_eq', BitVec.getLsbD_sshiftRight]
  have e : (BitVec.ofNat 32 j).toNat = j := by
    rw [BitVec.toNat_ofNat]
    exact Nat.mod_eq_of_lt (by omega)
  rw [e]
  simp [hj]
theorem and1 (x : Int32) : x &&& 1 = if tb x 0 = true then 1 else 0 := by
  apply tb_ext
  intro k hk
  rw [tb_and, tb_1]
  by_cases h : k = 0
  · subst h
    cases e : tb x 0 with
    | true => rw [if_pos rfl, tb_1]; rfl
    | false => rw [if_neg (by decide), tb_0]; rfl
  · rw [decide_eq_false h, Bool.and_false]
    cases e : tb x 0 with
    | true => rw [if_pos rfl, tb_1, decide_eq_false h]
    | false => rw [if_neg (by decide), tb_0]
theorem bit_e {x : Int32} {j : Nat} (hj : j < 32) : (x >>> (nI j &&& 31)) &&& 1 = if tb x j = true then 1 else 0 := by
  rw [and1, tb_shr hj]
theorem sub_0 {x y : Int32} : x &&& (y ^^^ (-1)) = 0 ↔ ∀ k, k < 32 → tb x k = true → tb y k = true := by
  constructor
  · intro h k hk hx
    have := congrArg (fun z => tb z k) h
    simp only [tb_and, tb_xor, tb_m1 hk, tb_0, hx, Bool.true_and] at this
    revert this
    cases tb y k <;> decide
  · intro h
    apply tb_ext
    intro k hk
    rw [tb_and, tb_xor, tb_m1 hk, tb_0]
    cases hx : tb x k with
    | false => rfl
    | true => rw [h k hk hx]; rfl
theorem tb_n {n k : Nat} (hn : n < 2 ^ 31) : tb (nI n) k = n.testBit k := by
  unfold tb
  have e : (nI n).toBitVec = BitVec.ofNat 32 n := rfl
  rw [e, BitVec.getLsbD_ofNat]
  by_cases hk : k < 32
  · simp [hk]
  · have : n.testBit k = false := by
      apply Nat.testBit_lt_two_pow
      calc n < 2 ^ 31 := hn
        _ ≤ 2 ^ k := Nat.pow_le_pow_right (by decide) (by omega)
    simp [hk, this]
theorem tb_ne0 {x : Int32} (h : ¬ x = 0) : ∃ k, k < 32 ∧ tb x k = true := by
  refine Classical.byContradiction (fun z => h ?_)
  apply tb_ext
  intro k hk
  rw [tb_0]
  cases e : tb x k with
  | false => rfl
  | true => exact absurd ⟨k, hk, e⟩ z
