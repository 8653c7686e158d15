/-! LAYER 1: ints and longs as natural numbers (below 2^32, 2^64); they need not be said with a sign -/
theorem lx_and (a b : Nat) : lN a &&& lN b = lN (a &&& b) := by
  apply Int64.toBitVec_inj.mp
  show BitVec.ofNat 64 a &&& BitVec.ofNat 64 b = BitVec.ofNat 64 (a &&& b)
  apply BitVec.eq_of_getLsbD_eq
  intro i hi
  simp [BitVec.getLsbD_ofNat, Nat.testBit_and, hi]
theorem lx_or (a b : Nat) : lN a ||| lN b = lN (a ||| b) := by
  apply Int64.toBitVec_inj.mp
  show BitVec.ofNat 64 a ||| BitVec.ofNat 64 b = BitVec.ofNat 64 (a ||| b)
  apply BitVec.eq_of_getLsbD_eq
  intro i hi
  simp [BitVec.getLsbD_ofNat, Nat.testBit_or, hi]
theorem lx_xor (a b : Nat) : lN a ^^^ lN b = lN (a ^^^ b) := by
  apply Int64.toBitVec_inj.mp
  show BitVec.ofNat 64 a ^^^ BitVec.ofNat 64 b = BitVec.ofNat 64 (a ^^^ b)
  apply BitVec.eq_of_getLsbD_eq
  intro i hi
  simp [BitVec.getLsbD_ofNat, Nat.testBit_xor, hi]
theorem nx_xor9 (a b : Nat) : nI a ^^^ nI b = nI (a ^^^ b) := by
  apply Int32.toBitVec_inj.mp
  show BitVec.ofNat 32 a ^^^ BitVec.ofNat 32 b = BitVec.ofNat 32 (a ^^^ b)
  apply BitVec.eq_of_getLsbD_eq
  intro i hi
  simp [BitVec.getLsbD_ofNat, Nat.testBit_xor, hi]
theorem us_k : ∀ k : Nat, k < 32 → (((Int32.ofInt (k : Int)).toUInt32 &&& Int32.toUInt32 31).toBitVec % 32).toNat = k := by decide +kernel
theorem us_kL : ∀ k : Nat, k < 64 → (((Int32.ofInt (k : Int)).toInt64.toUInt64 &&& Int64.toUInt64 63).toBitVec % 64).toNat = k := by decide +kernel
theorem sh_kL2 : ∀ k : Nat, k < 2048 → (((Int32.ofInt (k : Int)).toInt64 &&& 63).toBitVec.smod 64).toNat = k % 64 := by decide +kernel
theorem lN_bits {n : Nat} (h : n < 18446744073709551616) : (lN n).toBitVec.toNat = n := by
  show (BitVec.ofNat 64 n).toNat = n
  rw [BitVec.toNat_ofNat]
  exact Nat.mod_eq_of_lt h
theorem l_ushr {a k : Nat} (ha : a < 18446744073709551616) (hk : k < 64) : ((lN a).toUInt64 >>> ((Int32.ofInt (k : Int)).toInt64.toUInt64 &&& Int64.toUInt64 63)).toInt64 = lN (a / 2 ^ k) := by
  apply Int64.toBitVec_inj.mp
  have h1 : (((lN a).toUInt64 >>> ((Int32.ofInt (k : Int)).toInt64.toUInt64 &&& Int64.toUInt64 63)).toInt64).toBitVec = (lN a).toBitVec >>> k := by
    show (((lN a).toUInt64 >>> ((Int32.ofInt (k : Int)).toInt64.toUInt64 &&& Int64.toUInt64 63))).toBitVec = (lN a).toBitVec >>> k
    rw [UInt64.toBitVec_shiftRight, BitVec.ushiftRight_eq', us_kL k hk]
    rfl
  rw [h1]
  apply BitVec.eq_of_toNat_eq
  rw [BitVec.toNat_ushiftRight, lN_bits ha, lN_bits (Nat.lt_of_le_of_lt (Nat.div_le_self ..) ha), Nat.shiftRight_eq_div_pow]
theorem l_shl2 (a : Int) {i : Nat} (hi : i < 2048) : Int64.ofInt a <<< ((Int32.ofInt (i : Int)).toInt64 &&& 63) = Int64.ofInt (a * 2 ^ (i % 64)) := by
  have hk : i % 64 < 64 := Nat.mod_lt _ (by decide)
  rw [← l_shl a hk]
  apply Int64.toBitVec_inj.mp
  rw [Int64.toBitVec_shiftLeft, Int64.toBitVec_shiftLeft, BitVec.shiftLeft_eq', BitVec.shiftLeft_eq', sh_kL2 i hi, sh_kL (i % 64) hk]
/-- a natural number below 2^64 with its sign -/
def sg (a : Nat) : Int := if a < 9223372036854775808 then (a : Int) else (a : Int) - 18446744073709551616
theorem sg_I {a : Nat} (h : a < 18446744073709551616) : I64 (sg a) := by
  unfold sg
  split <;> omega
theorem sg_of (a : Nat) : Int64.ofInt (sg a) = Int64.ofInt (a : Int) := by
  unfold sg
  split
  · rfl
  · apply Int64.toBitVec_inj.mp
    show BitVec.ofInt 64 ((a : Int) - 18446744073709551616) = BitVec.ofInt 64 (a : Int)
    apply BitVec.eq_of_toNat_eq
    rw [BitVec.toNat_ofInt, BitVec.toNat_ofInt]
    congr 1
    show ((a : Int) - 18446744073709551616) % 18446744073709551616 = (a : Int) % 18446744073709551616
    omega
theorem sg_0 {a : Nat} (h : a < 18446744073709551616) : sg a = 0 ↔ a = 0 := by
  unfold sg
  split <;> omega
/-- the same with 32 bits -/
def sg32 (a : Nat) : Int := if a < 2147483648 then (a : Int) else (a : Int) - 4294967296
theorem sg32_I {a : Nat} (h : a < 4294967296) : I32 (sg32 a) := by
  unfold sg32
  split <;> omega
theorem sg32_of (a : Nat) : Int32.ofInt (sg32 a) = Int32.ofInt (a : Int) := by
  unfold sg32
  split
  · rfl
  · apply Int32.toBitVec_inj.mp
    show BitVec.ofInt 32 ((a : Int) - 4294967296) = BitVec.ofInt 32 (a : Int)
    apply BitVec.eq_of_toNat_eq
    rw [BitVec.toNat_ofInt, BitVec.toNat_ofInt]
    congr 1
    show ((a : Int) - 4294967296) % 4294967296 = (a : Int) % 4294967296
    omega
theorem sg32_0 {a : Nat} (h : a < 4294967296) : sg32 a = 0 ↔ a = 0 := by
  unfold sg32
  split <;> omega
theorem call_cv {M : MD} {d : Nat} {av av' : List AV} {h : AH} {Q : AO → AH → Prop} (e : av.map cv = av'.map cv) (k : Call M d av h Q) : Call M d av' h Q := by
  intro w
  obtain ⟨o, h', q, w', g, r⟩ := k w
  refine ⟨o, h', q, w', g, ?_⟩
  unfold MetH kPc at *
  rw [← e]
  exact r
section BN
variable {M : MD} {d pc : Nat} {l : Lc} {st : List AV} {h : AH} {Q : AO → AH → Prop}
theorem e_landN {a b : Nat} (hT : mT M pc = some (.land, 1)) (kk : Ex M d (pc + 1) l (G ((a &&& b : Nat) : Int) :: st) h Q) : Ex M d pc l (G (b : Int) :: G (a : Int) :: st) h Q :=
  e_land_raw hT (ex_Gs (by rw [Int64.ofInt_toInt, ofInt_lN, ofInt_lN, ofInt_lN, lx_and]) kk)
theorem e_lorN {a b : Nat} (hT : mT M pc = some (.lor, 1)) (kk : Ex M d (pc + 1) l (G ((a ||| b : Nat) : Int) :: st) h Q) : Ex M d pc l (G (b : Int) :: G (a : Int) :: st) h Q :=
  e_lor_raw hT (ex_Gs (by rw [Int64.ofInt_toInt, ofInt_lN, ofInt_lN, ofInt_lN, lx_or]) kk)
theorem e_lxorN {a b : Nat} (hT : mT M pc = some (.lxor, 1)) (kk : Ex M d (pc + 1) l (G ((a ^^^ b : Nat) : Int) :: st) h Q) : Ex M d pc l (G (b : Int) :: G (a : Int) :: st) h Q :=
  e_lxor_raw hT (ex_Gs (by rw [Int64.ofInt_toInt, ofInt_lN, ofInt_lN, ofInt_lN, lx_xor]) kk)
theorem e_ixorN {a b : Nat} (hT : mT M pc = some (.ixor, 1)) (kk : Ex M d (pc + 1) l (J ((a ^^^ b : Nat) : Int) :: st) h Q) : Ex M d pc l (J (b : Int) :: J (a : Int) :: st) h Q :=
  e_ixor_raw hT (ex_Js (by rw [Int32.ofInt_toInt, ofInt_nI, ofInt_nI, ofInt_nI, nx_xor9]) kk)
theorem e_iushrN {a k : Nat} (hT : mT M pc = some (.iushr, 1)) (ha : a < 4294967296) (hk : k < 32) (kk : Ex M d (pc + 1) l (J ((a / 2 ^ k : Nat) : Int) :: st) h Q) : Ex M d pc l (J (k : Int) :: J (a : Int) :: st) h Q :=
  e_iushr_raw hT (ex_Js (by rw [Int32.ofInt_toInt, ofInt_nI a, ofInt_nI (a / 2 ^ k), pk_ushrN (by omega) _ k (us_k k hk)]) kk)
theorem e_lushrN {a k : Nat} (hT : mT M pc = some (.lushr, 1)) (ha : a < 18446744073709551616) (hk : k < 64) (kk : Ex M d (pc + 1) l (G ((a / 2 ^ k : Nat) : Int) :: st) h Q) : Ex M d pc l (J (k : Int) :: G (a : Int) :: st) h Q :=
  e_lushr_raw hT (ex_Gs (by rw [Int64.ofInt_toInt, ofInt_lN a, ofInt_lN (a / 2 ^ k), l_ushr ha hk]) kk)
theorem e_lshl2 {a : Int} {i : Nat} (hT : mT M pc = some (.lshl, 1)) (hk : i < 2048) (kk : Ex M d (pc + 1) l (G (a * 2 ^ (i % 64)) :: st) h Q) : Ex M d pc l (J (i : Int) :: G a :: st) h Q :=
  e_lshl_raw hT (ex_Gs (by rw [Int64.ofInt_toInt, l_shl2 a hk]) kk)
theorem ex_Gn {a : Nat} (k : Ex M d pc l (G (sg a) :: st) h Q) : Ex M d pc l (G (a : Int) :: st) h Q := ex_Gs (sg_of a).symm k
theorem ex_Jn {a : Nat} (k : Ex M d pc l (J (sg32 a) :: st) h Q) : Ex M d pc l (J (a : Int) :: st) h Q := ex_Js (sg32_of a).symm k
end BN
