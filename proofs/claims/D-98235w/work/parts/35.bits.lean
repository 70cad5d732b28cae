/-! rows of BITS.to-paste (a starting text): Int32 by its bits; then my own -/
def bt (x : Int32) (i : Nat) : Bool := x.toBitVec.getLsbD i
theorem b_ext {x y : Int32} (h : ∀ i, i < 32 → bt x i = bt y i) : x = y := Int32.toBitVec_inj.mp (BitVec.eq_of_getLsbD_eq (fun i hi => h i hi))
theorem b_or (x y : Int32) (i : Nat) : bt (x ||| y) i = (bt x i || bt y i) := by unfold bt; rw [Int32.toBitVec_or, BitVec.getLsbD_or]
theorem b_and (x y : Int32) (i : Nat) : bt (x &&& y) i = (bt x i && bt y i) := by unfold bt; rw [Int32.toBitVec_and, BitVec.getLsbD_and]
theorem b_xor (x y : Int32) (i : Nat) : bt (x ^^^ y) i = (bt x i ^^ bt y i) := by unfold bt; rw [Int32.toBitVec_xor, BitVec.getLsbD_xor]
theorem b_big {x : Int32} {i : Nat} (h : 32 ≤ i) : bt x i = false := BitVec.getLsbD_of_ge _ _ h
theorem b_m1 : ∀ i, i < 32 → bt (-1) i = true := by decide +kernel
theorem b_0 (i : Nat) : bt 0 i = false := BitVec.getLsbD_zero
theorem s_l : ∀ n, n < 32 → ((nI n &&& 31).toBitVec.smod 32).toNat = n := by decide +kernel
theorem s_u : ∀ n, n < 32 → (((nI n).toUInt32 &&& Int32.toUInt32 31).toBitVec % 32).toNat = n := by decide +kernel
theorem b_shl (n : Nat) (hn : n < 32) (x : Int32) {i : Nat} (hi : i < 32) : bt (x <<< (nI n &&& 31)) i = (decide (n ≤ i) && bt x (i - n)) := by
  unfold bt
  rw [Int32.toBitVec_shiftLeft]
  show (x.toBitVec <<< ((nI n &&& 31).toBitVec.smod 32).toNat).getLsbD i = _
  rw [s_l n hn, BitVec.getLsbD_shiftLeft]
  rcases Nat.lt_or_ge i n with h | h
  · simp [h, Nat.not_le.mpr h]
  · simp [hi, h, Nat.not_lt.mpr h]
theorem b_ushr (n : Nat) (hn : n < 32) (x : Int32) (i : Nat) : bt ((x.toUInt32 >>> ((nI n).toUInt32 &&& Int32.toUInt32 31)).toInt32) i = bt x (n + i) := by
  show (x.toUInt32 >>> ((nI n).toUInt32 &&& Int32.toUInt32 31)).toBitVec.getLsbD i = x.toUInt32.toBitVec.getLsbD (n + i)
  rw [UInt32.toBitVec_shiftRight]
  show (x.toUInt32.toBitVec >>> (((nI n).toUInt32 &&& Int32.toUInt32 31).toBitVec % 32).toNat).getLsbD i = _
  rw [s_u n hn, BitVec.getLsbD_ushiftRight]
theorem b_sshr (n : Nat) (hn : n < 32) (x : Int32) {i : Nat} (hi : i < 32) : bt (x >>> (nI n &&& 31)) i = if n + i < 32 then bt x (n + i) else bt x 31 := by
  unfold bt
  rw [Int32.toBitVec_shiftRight]
  show (x.toBitVec.sshiftRight ((nI n &&& 31).toBitVec.smod 32).toNat).getLsbD i = _
  rw [s_l n hn, BitVec.getLsbD_sshiftRight, BitVec.msb_eq_getLsbD_last]
  simp [hi]
theorem b_1 : ∀ i, i < 32 → bt 1 i = decide (i = 0) := by decide +kernel
theorem b_o1 : ∀ n : Nat, n < 32 → Int32.ofInt (n : Int) = nI n := by decide +kernel
/-- whether the set x holds k -/
def hb (x : Int) (k : Nat) : Bool := bt (Int32.ofInt x) k
theorem and1 (y : Int32) : y &&& 1 = if bt y 0 then 1 else 0 := by
  apply b_ext
  intro i hi
  rw [b_and, b_1 i hi]
  by_cases e : i = 0
  · subst e
    cases h : bt y 0 <;> simp [b_1, b_0, hi]
  · cases h : bt y 0 <;> simp [e, b_1 i hi, b_0]
theorem o1 : Int32.ofInt 1 = 1 := rfl
theorem hb_eq (x : Int) {k : Nat} (hk : k < 32) : bAnd (bShr x k) 1 = if hb x k then 1 else 0 := by
  unfold bAnd bShr
  rw [ofInt_toInt32, o1, b_o1 k hk, and1, b_sshr k hk _ (by omega)]
  rw [if_pos (show k + 0 < 32 by omega), Nat.add_zero]
  unfold hb
  cases bt (Int32.ofInt x) k <;> rfl
theorem hb_01 (x : Int) {k : Nat} (hk : k < 32) : 0 ≤ bAnd (bShr x k) 1 ∧ bAnd (bShr x k) 1 ≤ 1 := by
  rw [hb_eq x hk]; split <;> omega
theorem hb_or (x : Int) {p k : Nat} (hp : p < 31) (hk : k < 32) : hb (bOr x (bShl 1 p)) k = (hb x k || decide (k = p)) := by
  unfold hb bOr bShl
  rw [ofInt_toInt32, ofInt_toInt32, o1, b_o1 p (by omega), b_or, b_shl p (by omega) _ hk]
  by_cases h : p ≤ k
  · rw [b_1 (k - p) (by omega)]
    by_cases e : k = p
    · subst e; simp
    · simp [h, e, show ¬ k - p = 0 by omega]
  · simp [h, show ¬ k = p by omega]
theorem hb_or2 (x y : Int) {k : Nat} : hb (bOr x y) k = (hb x k || hb y k) := by
  unfold hb bOr
  rw [ofInt_toInt32, b_or]
theorem hb_0 (k : Nat) : hb 0 k = false := b_0 k
theorem hb_ext {x y : Int} (hx : i32 x) (hy : i32 y) (h : ∀ k, k < 32 → hb x k = hb y k) : x = y := by
  have e := b_ext (x := Int32.ofInt x) (y := Int32.ofInt y) h
  have e2 := congrArg Int32.toInt e
  rw [i32_toInt hx, i32_toInt hy] at e2
  exact e2
theorem i32_bOr (x y : Int) : i32 (bOr x y) := i32_of _
theorem i32_bXor (x y : Int) : i32 (bXor x y) := i32_of _
