/-! PLAIN SIDE 35: counting bits -/
def bcF (x0 : Int32) : Int32 :=
  let a := x0 - ((UInt32.toInt32 (Int32.toUInt32 x0 >>> (Int32.toUInt32 (1 : Int32) &&& Int32.toUInt32 31))) &&& (1431655765 : Int32))
  let b := (a &&& (858993459 : Int32)) + ((UInt32.toInt32 (Int32.toUInt32 a >>> (Int32.toUInt32 (2 : Int32) &&& Int32.toUInt32 31))) &&& (858993459 : Int32))
  let c := (b + (UInt32.toInt32 (Int32.toUInt32 b >>> (Int32.toUInt32 (4 : Int32) &&& Int32.toUInt32 31)))) &&& (252645135 : Int32)
  let d := c + (UInt32.toInt32 (Int32.toUInt32 c >>> (Int32.toUInt32 (8 : Int32) &&& Int32.toUInt32 31)))
  (d + (UInt32.toInt32 (Int32.toUInt32 d >>> (Int32.toUInt32 (16 : Int32) &&& Int32.toUInt32 31)))) &&& (63 : Int32)
theorem ex_bc (Q : Int32 → XS → Prop) (S : XS) (v : Int32) : wx_J18_bitCount Q S v = Q (bcF v) S := rfl
def bcN (x : Nat) : Nat :=
  let a := x - ((x >>> 1) &&& 1431655765)
  let b := (a &&& 858993459) + ((a >>> 2) &&& 858993459)
  let c := (b + (b >>> 4)) &&& 252645135
  let d := c + (c >>> 8)
  (d + (d >>> 16)) &&& 63
def pcN (s : Nat) : Nat → Nat
  | 0 => 0
  | k + 1 => pcN s k + (if s.testBit k = true then 1 else 0)
theorem us_shr {n k : Nat} (hn : n < 2 ^ 31) (c : Int32) (hc : (Int32.toUInt32 c &&& Int32.toUInt32 31).toNat = k) (hk : k < 32) : UInt32.toInt32 (Int32.toUInt32 (nI n) >>> (Int32.toUInt32 c &&& Int32.toUInt32 31)) = nI (n >>> k) := by
  have hle : n >>> k ≤ n := Nat.shiftRight_le n k
  rw [← Int32.toBitVec_inj]
  apply BitVec.eq_of_toNat_eq
  rw [nI_bv, BitVec.toNat_ofNat, Nat.mod_eq_of_lt (show n >>> k < 2 ^ 32 by omega)]
  show (Int32.toUInt32 (nI n) >>> (Int32.toUInt32 c &&& Int32.toUInt32 31)).toNat = _
  rw [UInt32.toNat_shiftRight, hc, Nat.mod_eq_of_lt (show k < 32 by omega)]
  have : (Int32.toUInt32 (nI n)).toNat = n := by
    show (BitVec.ofNat 32 n).toNat = n
    rw [BitVec.toNat_ofNat, Nat.mod_eq_of_lt (by omega)]
  rw [this]
theorem bcF_N {n : Nat} (hn : n < 2 ^ 16) : bcF (nI n) = nI (bcN n) := by
  have s1 := fun {n : Nat} (h : n < 2 ^ 31) => us_shr (n := n) (k := 1) h 1 (by decide) (by decide)
  have s2 := fun {n : Nat} (h : n < 2 ^ 31) => us_shr (n := n) (k := 2) h 2 (by decide) (by decide)
  have s4 := fun {n : Nat} (h : n < 2 ^ 31) => us_shr (n := n) (k := 4) h 4 (by decide) (by decide)
  have s8 := fun {n : Nat} (h : n < 2 ^ 31) => us_shr (n := n) (k := 8) h 8 (by decide) (by decide)
  have s16 := fun {n : Nat} (h : n < 2 ^ 31) => us_shr (n := n) (k := 16) h 16 (by decide) (by decide)
  have c1 : (1431655765 : Int32) = nI 1431655765 := by decide
  have c2 : (858993459 : Int32) = nI 858993459 := by decide
  have c3 : (252645135 : Int32) = nI 252645135 := by decide
  have c4 : (63 : Int32) = nI 63 := by decide
  unfold bcF bcN
  have le1 : (n >>> 1) &&& 1431655765 ≤ n := Nat.le_trans Nat.and_le_left (Nat.shiftRight_le n 1)
  rw [c1, c2, c3, c4]
  simp only [s1 (show n < 2 ^ 31 by omega), nI_and, nI_s le1]
  generalize ha : n - ((n >>> 1) &&& 1431655765) = a
  have ha' : a < 2 ^ 16 := by omega
  simp only [s2 (show a < 2 ^ 31 by omega), nI_and, nI_a]
  have lb1 : a &&& 858993459 ≤ a := Nat.and_le_left
  have lb2 : (a >>> 2) &&& 858993459 ≤ a := Nat.le_trans Nat.and_le_left (Nat.shiftRight_le a 2)
  generalize hb : (a &&& 858993459) + ((a >>> 2) &&& 858993459) = b
  have hb' : b < 2 ^ 17 := by omega
  have lc : b >>> 4 ≤ b := Nat.shiftRight_le b 4
  simp only [s4 (show b < 2 ^ 31 by omega), nI_and, nI_a]
  have lc2 : (b + b >>> 4) &&& 252645135 ≤ b + b >>> 4 := Nat.and_le_left
  generalize hc : (b + b >>> 4) &&& 252645135 = c
  have hc' : c < 2 ^ 18 := by omega
  have ld : c >>> 8 ≤ c := Nat.shiftRight_le c 8
  simp only [s8 (show c < 2 ^ 31 by omega), nI_a]
  generalize hd : c + c >>> 8 = e
  have hd' : e < 2 ^ 19 := by omega
  simp only [s16 (show e < 2 ^ 31 by omega), nI_a, nI_and]
def pcS (s : Nat) : Nat := 0 + s / 2 ^ 0 % 2 + s / 2 ^ 1 % 2 + s / 2 ^ 2 % 2 + s / 2 ^ 3 % 2 + s / 2 ^ 4 % 2 + s / 2 ^ 5 % 2 + s / 2 ^ 6 % 2 + s / 2 ^ 7 % 2 + s / 2 ^ 8 % 2 + s / 2 ^ 9 % 2 + s / 2 ^ 10 % 2 + s / 2 ^ 11 % 2 + s / 2 ^ 12 % 2 + s / 2 ^ 13 % 2 + s / 2 ^ 14 % 2 + s / 2 ^ 15 % 2
theorem bcT : ∀ a : Fin 256, ∀ b : Fin 256, bcN (256 * a.val + b.val) = pcS (256 * a.val + b.val) := by decide +kernel
theorem tb_mod (s k : Nat) : (if s.testBit k = true then 1 else 0) = s / 2 ^ k % 2 := by
  have hb : s.testBit k = (1 &&& (s >>> k) != 0) := rfl
  rw [hb, Nat.and_comm 1 (s >>> k), Nat.and_one_is_mod, Nat.shiftRight_eq_div_pow]
  rcases Nat.mod_two_eq_zero_or_one (s / 2 ^ k) with h | h
  · rw [h]; rfl
  · rw [h]; rfl
def pcD (s : Nat) : Nat → Nat
  | 0 => 0
  | k + 1 => pcD s k + s / 2 ^ k % 2
theorem pcN_D (s : Nat) : ∀ k, pcN s k = pcD s k
  | 0 => rfl
  | k + 1 => by
    unfold pcN pcD
    rw [pcN_D s k, tb_mod]
theorem pcN_S (s : Nat) : pcN s 16 = pcS s := (pcN_D s 16).trans rfl
theorem bc_pc {n : Nat} (hn : n < 2 ^ 16) : bcF (nI n) = nI (pcN n 16) := by
  rw [bcF_N hn, pcN_S]
  have := bcT ⟨n / 256, by omega⟩ ⟨n % 256, by omega⟩
  have e : 256 * (n / 256) + n % 256 = n := by omega
  rw [show (256 * (⟨n / 256, by omega⟩ : Fin 256).val + (⟨n % 256, by omega⟩ : Fin 256).val) = n from e] at this
  rw [this]
theorem pcN_le (s : Nat) : ∀ k, pcN s k ≤ k
  | 0 => Nat.le_refl 0
  | k + 1 => by
    unfold pcN
    have := pcN_le s k
    split <;> omega
