/-! ROWS OF BITS -/
set_option maxRecDepth 100000
theorem bit1 {n : Nat} (h : n < 31) : ((1 : Int32) <<< (z n &&& 31)).toBitVec = BitVec.twoPow 32 n := by
  have : ∀ k : Fin 31, ((1 : Int32) <<< (z ((k.val : Nat) : Int) &&& 31)).toBitVec = BitVec.twoPow 32 k.val := by decide +kernel
  exact this ⟨n, h⟩
theorem orB_bit {p : Nat → Bool} : ∀ {n : Nat}, n ≤ 31 → ∀ j, (orB p n).toBitVec.getLsbD j = (decide (j < n) && p j) := by
  intro n
  induction n with
  | zero =>
    intro _ j
    show (0 : Int32).toBitVec.getLsbD j = _
    simp [show (0 : Int32).toBitVec = 0#32 from rfl]
  | succ n ih =>
    intro h j
    have h1 := ih (by omega) j
    unfold orB
    rw [Int32.toBitVec_or, BitVec.getLsbD_or, h1]
    by_cases hp : p n = true
    · rw [if_pos hp, bit1 (by omega), BitVec.getLsbD_twoPow]
      by_cases e : j = n
      · subst e
        have : decide (j < 32) = true := by simp; omega
        simp [hp, this]
      · have e' : ¬ n = j := fun h => e h.symm
        have e2 : decide (j < n + 1) = decide (j < n) := by congr 1; exact propext ⟨fun _ => by omega, fun _ => by omega⟩
        simp [e', e2]
    · rw [if_neg hp, show (0 : Int32).toBitVec = 0#32 from rfl, BitVec.getLsbD_zero, Bool.or_false]
      by_cases e : j = n
      · subst e
        simp [hp]
      · have e2 : decide (j < n + 1) = decide (j < n) := by congr 1; exact propext ⟨fun _ => by omega, fun _ => by omega⟩
        rw [e2]
theorem orB_ext {p q : Nat → Bool} {n : Nat} (hn : n ≤ 31) {a : Int32} (h : ∀ j, j < 32 → a.toBitVec.getLsbD j = (decide (j < n) && p j)) : a = orB p n := by
  apply Int32.toBitVec_inj.mp
  apply BitVec.eq_of_getLsbD_eq
  intro j hj
  rw [h j hj, orB_bit hn]
/-- without those of another -/
theorem orB_not {p q : Nat → Bool} {n : Nat} (hn : n ≤ 31) : orB p n &&& (orB q n ^^^ (-1)) = orB (fun i => p i && !q i) n := by
  refine orB_ext (q := p) hn fun j hj => ?_
  rw [Int32.toBitVec_and, Int32.toBitVec_xor, BitVec.getLsbD_and, BitVec.getLsbD_xor, orB_bit hn, orB_bit hn, show (-1 : Int32).toBitVec = BitVec.allOnes 32 from rfl, BitVec.getLsbD_allOnes]
  have : decide (j < 32) = true := by simpa using hj
  rw [this]
  cases decide (j < n) <;> cases p j <;> cases q j <;> rfl
theorem orB_congr {p q : Nat → Bool} : ∀ {n : Nat}, (∀ i, i < n → p i = q i) → orB p n = orB q n := by
  intro n
  induction n with
  | zero => exact fun _ => rfl
  | succ n ih =>
    intro h
    unfold orB
    rw [ih fun i hi => h i (by omega), h n (by omega)]
/-- .. as a number -/
def orN (p : Nat → Bool) : Nat → Nat
  | 0 => 0
  | i + 1 => orN p i ||| (if p i then 2 ^ i else 0)
theorem orN_bit {p : Nat → Bool} : ∀ {n : Nat} (j : Nat), (orN p n).testBit j = (decide (j < n) && p j) := by
  intro n
  induction n with
  | zero => intro j; simp [orN]
  | succ n ih =>
    intro j
    unfold orN
    rw [Nat.testBit_or, ih j]
    by_cases hp : p n = true
    · rw [if_pos hp, Nat.testBit_two_pow]
      by_cases e : j = n
      · subst e
        simp [hp]
      · have e' : ¬ n = j := fun h => e h.symm
        have e2 : decide (j < n + 1) = decide (j < n) := by congr 1; exact propext ⟨fun _ => by omega, fun _ => by omega⟩
        simp [e', e2]
    · rw [if_neg hp, Nat.zero_testBit, Bool.or_false]
      by_cases e : j = n
      · subst e
        simp [hp]
      · have e2 : decide (j < n + 1) = decide (j < n) := by congr 1; exact propext ⟨fun _ => by omega, fun _ => by omega⟩
        rw [e2]
theorem orN_lt {p : Nat → Bool} : ∀ {n : Nat}, orN p n < 2 ^ n := by
  intro n
  induction n with
  | zero => simp [orN]
  | succ n ih =>
    unfold orN
    refine Nat.or_lt_two_pow ?_ ?_
    · rw [Nat.pow_succ]; omega
    · have := Nat.two_pow_pos n
      split <;> rw [Nat.pow_succ] <;> omega
theorem z_bv {k : Nat} : (z k).toBitVec = BitVec.ofNat 32 k := by
  rw [← z_nat]
  rfl
theorem orB_nat {p : Nat → Bool} {n : Nat} (hn : n ≤ 31) : orB p n = z (orN p n) := by
  refine (orB_ext (q := p) hn fun j hj => ?_).symm
  rw [z_bv, BitVec.getLsbD_ofNat, orN_bit]
  have : decide (j < 32) = true := by simpa using hj
  rw [this, Bool.true_and]
theorem shr_z {k i : Nat} (hk : k < 2147483648) (hi : i < 31) : z k >>> (z i &&& 31) = z ((k / 2 ^ i : Nat) : Int) := by
  have h31 : ∀ q : Fin 31, ((z ((q.val : Nat) : Int) &&& 31 : Int32).toBitVec.smod 32).toNat = q.val := by decide +kernel
  have h2 : ((z i &&& 31 : Int32).toBitVec.smod 32).toNat = i := h31 ⟨i, hi⟩
  have h3 : k / 2 ^ i ≤ k := Nat.div_le_self _ _
  have e : (z k >>> (z i &&& 31)).toInt = ((k / 2 ^ i : Nat) : Int) := by
    rw [← Int32.toInt_toBitVec, Int32.toBitVec_shiftRight, BitVec.sshiftRight', h2, BitVec.toInt_sshiftRight, Int32.toInt_toBitVec, zint (by omega) (by omega), Int.shiftRight_eq_div_pow]
    simp
  generalize k / 2 ^ i = q at *
  apply Int32.toInt_inj.mp
  rw [e, zint (by omega) (by omega)]
theorem and1_z {k : Nat} (hk : k < 2147483648) : z k &&& z 1 = z ((k % 2 : Nat) : Int) := by
  apply Int32.toBitVec_inj.mp
  rw [Int32.toBitVec_and, z_bv, z_bv, show (z 1).toBitVec = 1#32 from rfl]
  apply BitVec.eq_of_toNat_eq
  rw [BitVec.toNat_and, BitVec.toNat_ofNat, BitVec.toNat_ofNat, BitVec.toNat_ofNat, Nat.mod_eq_of_lt (show k < 2 ^ 32 by omega), Nat.mod_eq_of_lt (show k % 2 < 2 ^ 32 by omega)]
  show k &&& 1 = k % 2
  exact Nat.and_one_is_mod k
