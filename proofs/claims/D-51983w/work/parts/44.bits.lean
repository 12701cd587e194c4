set_option maxRecDepth 100000
/-! SETS AS BITS -/
def s_bc (v0 : Int32) : Int32 := ((((((((v0 - (((v0.toUInt32 >>> ((1 : Int32).toUInt32 &&& Int32.toUInt32 31)).toInt32) &&& (1431655765 : Int32))) &&& (858993459 : Int32)) + ((((v0 - (((v0.toUInt32 >>> ((1 : Int32).toUInt32 &&& Int32.toUInt32 31)).toInt32) &&& (1431655765 : Int32))).toUInt32 >>> ((2 : Int32).toUInt32 &&& Int32.toUInt32 31)).toInt32) &&& (858993459 : Int32))) + (((((v0 - (((v0.toUInt32 >>> ((1 : Int32).toUInt32 &&& Int32.toUInt32 31)).toInt32) &&& (1431655765 : Int32))) &&& (858993459 : Int32)) + ((((v0 - (((v0.toUInt32 >>> ((1 : Int32).toUInt32 &&& Int32.toUInt32 31)).toInt32) &&& (1431655765 : Int32))).toUInt32 >>> ((2 : Int32).toUInt32 &&& Int32.toUInt32 31)).toInt32) &&& (858993459 : Int32))).toUInt32 >>> ((4 : Int32).toUInt32 &&& Int32.toUInt32 31)).toInt32)) &&& (252645135 : Int32)) + (((((((v0 - (((v0.toUInt32 >>> ((1 : Int32).toUInt32 &&& Int32.toUInt32 31)).toInt32) &&& (1431655765 : Int32))) &&& (858993459 : Int32)) + ((((v0 - (((v0.toUInt32 >>> ((1 : Int32).toUInt32 &&& Int32.toUInt32 31)).toInt32) &&& (1431655765 : Int32))).toUInt32 >>> ((2 : Int32).toUInt32 &&& Int32.toUInt32 31)).toInt32) &&& (858993459 : Int32))) + (((((v0 - (((v0.toUInt32 >>> ((1 : Int32).toUInt32 &&& Int32.toUInt32 31)).toInt32) &&& (1431655765 : Int32))) &&& (858993459 : Int32)) + ((((v0 - (((v0.toUInt32 >>> ((1 : Int32).toUInt32 &&& Int32.toUInt32 31)).toInt32) &&& (1431655765 : Int32))).toUInt32 >>> ((2 : Int32).toUInt32 &&& Int32.toUInt32 31)).toInt32) &&& (858993459 : Int32))).toUInt32 >>> ((4 : Int32).toUInt32 &&& Int32.toUInt32 31)).toInt32)) &&& (252645135 : Int32)).toUInt32 >>> ((8 : Int32).toUInt32 &&& Int32.toUInt32 31)).toInt32)) + ((((((((v0 - (((v0.toUInt32 >>> ((1 : Int32).toUInt32 &&& Int32.toUInt32 31)).toInt32) &&& (1431655765 : Int32))) &&& (858993459 : Int32)) + ((((v0 - (((v0.toUInt32 >>> ((1 : Int32).toUInt32 &&& Int32.toUInt32 31)).toInt32) &&& (1431655765 : Int32))).toUInt32 >>> ((2 : Int32).toUInt32 &&& Int32.toUInt32 31)).toInt32) &&& (858993459 : Int32))) + (((((v0 - (((v0.toUInt32 >>> ((1 : Int32).toUInt32 &&& Int32.toUInt32 31)).toInt32) &&& (1431655765 : Int32))) &&& (858993459 : Int32)) + ((((v0 - (((v0.toUInt32 >>> ((1 : Int32).toUInt32 &&& Int32.toUInt32 31)).toInt32) &&& (1431655765 : Int32))).toUInt32 >>> ((2 : Int32).toUInt32 &&& Int32.toUInt32 31)).toInt32) &&& (858993459 : Int32))).toUInt32 >>> ((4 : Int32).toUInt32 &&& Int32.toUInt32 31)).toInt32)) &&& (252645135 : Int32)) + (((((((v0 - (((v0.toUInt32 >>> ((1 : Int32).toUInt32 &&& Int32.toUInt32 31)).toInt32) &&& (1431655765 : Int32))) &&& (858993459 : Int32)) + ((((v0 - (((v0.toUInt32 >>> ((1 : Int32).toUInt32 &&& Int32.toUInt32 31)).toInt32) &&& (1431655765 : Int32))).toUInt32 >>> ((2 : Int32).toUInt32 &&& Int32.toUInt32 31)).toInt32) &&& (858993459 : Int32))) + (((((v0 - (((v0.toUInt32 >>> ((1 : Int32).toUInt32 &&& Int32.toUInt32 31)).toInt32) &&& (1431655765 : Int32))) &&& (858993459 : Int32)) + ((((v0 - (((v0.toUInt32 >>> ((1 : Int32).toUInt32 &&& Int32.toUInt32 31)).toInt32) &&& (1431655765 : Int32))).toUInt32 >>> ((2 : Int32).toUInt32 &&& Int32.toUInt32 31)).toInt32) &&& (858993459 : Int32))).toUInt32 >>> ((4 : Int32).toUInt32 &&& Int32.toUInt32 31)).toInt32)) &&& (252645135 : Int32)).toUInt32 >>> ((8 : Int32).toUInt32 &&& Int32.toUInt32 31)).toInt32)).toUInt32 >>> ((16 : Int32).toUInt32 &&& Int32.toUInt32 31)).toInt32)) &&& (63 : Int32))
theorem bc_run (v : Int32) (S : rc_S) : (rp_J15_bitCount v).1 S = some (.inl (s_bc v), S) := rfl
/-- how many of the ten lowest bits are set -/
def s_bits (m : Nat) : Nat := s_fold (fun k x => x + (if m.testBit k then 1 else 0)) 10 0 0
theorem bc_all : ∀ m : Fin 1024, s_bc (Int32.ofNat m) = Int32.ofNat (s_bits m) := by decide +kernel
theorem bc_nat {m : Nat} (h : m < 1024) : s_bc (Int32.ofNat m) = Int32.ofNat (s_bits m) := bc_all ⟨m, h⟩
theorem shl_all : ∀ k : Fin 31, (1 : Int32) <<< (Int32.ofNat k &&& 31) = Int32.ofNat (1 <<< (k : Nat)) := by decide +kernel
theorem shl_nat {k : Nat} (h : k < 31) : (1 : Int32) <<< (Int32.ofNat k &&& 31) = Int32.ofNat (1 <<< k) := shl_all ⟨k, h⟩
theorem or_nat (a b : Nat) : Int32.ofNat a ||| Int32.ofNat b = Int32.ofNat (a ||| b) := by
  apply Int32.toBitVec_inj.mp
  simp [BitVec.ofNat_or]
theorem and_nat (a b : Nat) : Int32.ofNat a &&& Int32.ofNat b = Int32.ofNat (a &&& b) := by
  apply Int32.toBitVec_inj.mp
  simp [BitVec.ofNat_and]
/-- whether place k is set -/
theorem bit_all : ∀ (m : Fin 1024) (k : Fin 10), ((Int32.ofNat m >>> (Int32.ofNat k &&& 31)) &&& 1) = bi ((m : Nat).testBit k) := by decide +kernel
theorem bit_nat {m k : Nat} (h : m < 1024) (hk : k < 10) : ((Int32.ofNat m >>> (Int32.ofNat k &&& 31)) &&& 1) = bi (m.testBit k) := bit_all ⟨m, h⟩ ⟨k, hk⟩
def s_mask (p : Nat → Bool) : Nat → Nat → Nat → Nat := s_fold (fun k m => m ||| (if p k then 1 <<< k else 0))
theorem mask_bit (p : Nat → Bool) : ∀ (n i m j : Nat), (s_mask p n i m).testBit j = (m.testBit j || (decide (i ≤ j) && decide (j < i + n) && p j))
  | 0, i, m, j => by
    have : (decide (i ≤ j) && decide (j < i + 0)) = false := by
      by_cases h : i ≤ j
      · simp [h]
      · simp [h]
    rw [this]
    simp [s_mask, s_fold]
  | n + 1, i, m, j => by
    rw [s_mask, s_fold]
    have := mask_bit p n (i + 1) (m ||| (if p i then 1 <<< i else 0)) j
    rw [s_mask] at this
    rw [this, Nat.testBit_or]
    have e1 : (if p i then 1 <<< i else 0 : Nat).testBit j = (decide (i = j) && p i) := by
      by_cases hp : p i
      · rw [if_pos hp, Nat.shiftLeft_eq, Nat.one_mul, Nat.testBit_two_pow, hp, Bool.and_true]
      · have hp : p i = false := by simpa using hp
        simp [hp]
    rw [e1]
    by_cases hij : i = j
    · subst hij
      simp
      intro h
      omega
    · have h1 : decide (i + 1 ≤ j) = decide (i ≤ j) := by
        apply decide_eq_decide.mpr; omega
      have h2 : decide (j < i + 1 + n) = decide (j < i + (n + 1)) := by
        apply decide_eq_decide.mpr; omega
      rw [h1, h2]
      simp [hij]
theorem mask_lt (p : Nat → Bool) {n : Nat} : s_mask p n 0 0 < 2 ^ n := by
  apply Nat.lt_pow_two_of_testBit
  intro j hj
  rw [mask_bit]
  simp
  omega
