/-! LAYER 1: shifts, masks, divisions, on whole numbers -/
theorem sh_k : ∀ k : Nat, k < 32 → (((Int32.ofInt (k : Int)) &&& 31).toBitVec.smod 32).toNat = k := by decide +kernel
theorem sh_kL : ∀ k : Nat, k < 64 → (((Int32.ofInt (k : Int)).toInt64 &&& 63).toBitVec.smod 64).toNat = k := by decide +kernel
theorem ofInt_nI (n : Nat) : Int32.ofInt (n : Int) = nI n := Int32.ofInt_eq_ofNat ..
theorem ofInt_lN (n : Nat) : Int64.ofInt (n : Int) = lN n := Int64.ofInt_eq_ofNat ..
theorem i_shr {a : Int} (ha : I32 a) {k : Nat} (hk : k < 32) : (Int32.ofInt a >>> (Int32.ofInt (k : Int) &&& 31)).toInt = a / 2 ^ k := by
  rw [pk_shr _ _ k (sh_k k hk), toInt_ofInt32 ha, Int.shiftRight_eq_div_pow]
  simp
theorem l_shr {a : Int} (ha : I64 a) {k : Nat} (hk : k < 64) : (Int64.ofInt a >>> ((Int32.ofInt (k : Int)).toInt64 &&& 63)).toInt = a / 2 ^ k := by
  have h1 : (Int64.ofInt a >>> ((Int32.ofInt (k : Int)).toInt64 &&& 63)).toBitVec = (Int64.ofInt a).toBitVec.sshiftRight k := by
    rw [Int64.toBitVec_shiftRight, BitVec.sshiftRight_eq', sh_kL k hk]
  show (Int64.ofInt a >>> ((Int32.ofInt (k : Int)).toInt64 &&& 63)).toBitVec.toInt = _
  rw [h1, BitVec.toInt_sshiftRight]
  have h2 : (Int64.ofInt a).toBitVec.toInt = a := toInt_ofInt64 ha
  rw [h2, Int.shiftRight_eq_div_pow]
  simp
theorem i_shl (a : Int) {k : Nat} (hk : k < 32) : Int32.ofInt a <<< (Int32.ofInt (k : Int) &&& 31) = Int32.ofInt (a * 2 ^ k) := by
  apply Int32.toBitVec_inj.mp
  apply BitVec.eq_of_toNat_eq
  rw [pk_shl _ _ k (sh_k k hk)]
  have e : ∀ x : Int, (Int32.ofInt x).toBitVec.toNat = (x % 4294967296).toNat := fun x => by
    show (BitVec.ofInt 32 x).toNat = _
    rw [BitVec.toNat_ofInt]
    rfl
  rw [e, e]
  have h0 : 0 ≤ a % 4294967296 := Int.emod_nonneg _ (by decide)
  have h1 : 0 ≤ (a * 2 ^ k) % 4294967296 := Int.emod_nonneg _ (by decide)
  apply Int.ofNat.inj
  show (((a % 4294967296).toNat * 2 ^ k % 2 ^ 32 : Nat) : Int) = (((a * 2 ^ k) % 4294967296).toNat : Int)
  rw [Int.toNat_of_nonneg h1, Int.natCast_emod, Int.natCast_mul, Int.toNat_of_nonneg h0, Int.natCast_pow]
  show (a % 4294967296 * 2 ^ k) % 4294967296 = _
  rw [Int.mul_emod, Int.emod_emod_of_dvd _ (Int.dvd_refl _), ← Int.mul_emod]
theorem l_shl (a : Int) {k : Nat} (hk : k < 64) : Int64.ofInt a <<< ((Int32.ofInt (k : Int)).toInt64 &&& 63) = Int64.ofInt (a * 2 ^ k) := by
  apply Int64.toBitVec_inj.mp
  rw [Int64.toBitVec_shiftLeft, BitVec.shiftLeft_eq', sh_kL k hk]
  apply BitVec.eq_of_toNat_eq
  have e : ∀ x : Int, (Int64.ofInt x).toBitVec.toNat = (x % 18446744073709551616).toNat := fun x => by
    show (BitVec.ofInt 64 x).toNat = _
    rw [BitVec.toNat_ofInt]
    rfl
  rw [BitVec.toNat_shiftLeft, e, e, Nat.shiftLeft_eq]
  have h0 : 0 ≤ a % 18446744073709551616 := Int.emod_nonneg _ (by decide)
  have h1 : 0 ≤ (a * 2 ^ k) % 18446744073709551616 := Int.emod_nonneg _ (by decide)
  apply Int.ofNat.inj
  show (((a % 18446744073709551616).toNat * 2 ^ k % 2 ^ 64 : Nat) : Int) = (((a * 2 ^ k) % 18446744073709551616).toNat : Int)
  rw [Int.toNat_of_nonneg h1, Int.natCast_emod, Int.natCast_mul, Int.toNat_of_nonneg h0, Int.natCast_pow]
  show (a % 18446744073709551616 * 2 ^ k) % 18446744073709551616 = _
  rw [Int.mul_emod, Int.emod_emod_of_dvd _ (Int.dvd_refl _), ← Int.mul_emod]
theorem nx_and9 (a b : Nat) : nI a &&& nI b = nI (a &&& b) := by
  apply Int32.toBitVec_inj.mp
  show BitVec.ofNat 32 a &&& BitVec.ofNat 32 b = BitVec.ofNat 32 (a &&& b)
  apply BitVec.eq_of_getLsbD_eq
  intro i hi
  simp [BitVec.getLsbD_ofNat, Nat.testBit_and, hi]
theorem nx_or9 (a b : Nat) : nI a ||| nI b = nI (a ||| b) := by
  apply Int32.toBitVec_inj.mp
  show BitVec.ofNat 32 a ||| BitVec.ofNat 32 b = BitVec.ofNat 32 (a ||| b)
  apply BitVec.eq_of_getLsbD_eq
  intro i hi
  simp [BitVec.getLsbD_ofNat, Nat.testBit_or, hi]
section BI
variable {M : MD} {d pc : Nat} {l : Lc} {st : List AV} {h : AH} {Q : AO → AH → Prop}
theorem ex_J {x y : Int32} {pc1 : Nat} {l1 : Lc} (e : x = y) (k : Ex M d pc1 l1 (J y.toInt :: st) h Q) : Ex M d pc1 l1 (J x.toInt :: st) h Q := by rw [e]; exact k
/-- two ways to say the same int -/
theorem ex_Js {a b : Int} {pc1 : Nat} {l1 : Lc} (e : Int32.ofInt a = Int32.ofInt b) (k : Ex M d pc1 l1 (J b :: st) h Q) : Ex M d pc1 l1 (J a :: st) h Q := by
  refine ex_of k fun o h' r => ?_
  intro D b0 la p e9 R s m args below meth c s0 C h1 h2 h3 h4 H locs ls hR hlo hA hl
  have r1 := r D b0 la p e9 R s m args below meth c s0 C h1 h2 h3 h4 H locs ls hR hlo hA hl
  rw [List.map_cons, show cv (J b) = cv (J a) from congrArg Value.int e.symm] at r1
  exact r1
theorem ex_Gs {a b : Int} {pc1 : Nat} {l1 : Lc} (e : Int64.ofInt a = Int64.ofInt b) (k : Ex M d pc1 l1 (G b :: st) h Q) : Ex M d pc1 l1 (G a :: st) h Q := by
  refine ex_of k fun o h' r => ?_
  intro D b0 la p e9 R s m args below meth c s0 C h1 h2 h3 h4 H locs ls hR hlo hA hl
  have r1 := r D b0 la p e9 R s m args below meth c s0 C h1 h2 h3 h4 H locs ls hR hlo hA hl
  rw [List.map_cons, show cv (G b) = cv (G a) from congrArg Value.long e.symm] at r1
  exact r1
theorem e_ishr {a : Int} {k : Nat} (hT : mT M pc = some (.ishr, 1)) (ha : I32 a) (hk : k < 32) (kk : Ex M d (pc + 1) l (J (a / 2 ^ k) :: st) h Q) : Ex M d pc l (J (k : Int) :: J a :: st) h Q :=
  e_ishr_raw hT (by rw [i_shr ha hk]; exact kk)
theorem e_lshr {a : Int} {k : Nat} (hT : mT M pc = some (.lshr, 1)) (ha : I64 a) (hk : k < 64) (kk : Ex M d (pc + 1) l (G (a / 2 ^ k) :: st) h Q) : Ex M d pc l (J (k : Int) :: G a :: st) h Q :=
  e_lshr_raw hT (by rw [l_shr ha hk]; exact kk)
theorem e_ishl {a : Int} {k : Nat} (hT : mT M pc = some (.ishl, 1)) (hk : k < 32) (kk : Ex M d (pc + 1) l (J (a * 2 ^ k) :: st) h Q) : Ex M d pc l (J (k : Int) :: J a :: st) h Q :=
  e_ishl_raw hT (ex_Js (by rw [Int32.ofInt_toInt, i_shl a hk]) kk)
theorem e_lshl {a : Int} {k : Nat} (hT : mT M pc = some (.lshl, 1)) (hk : k < 64) (kk : Ex M d (pc + 1) l (G (a * 2 ^ k) :: st) h Q) : Ex M d pc l (J (k : Int) :: G a :: st) h Q :=
  e_lshl_raw hT (ex_Gs (by rw [Int64.ofInt_toInt, l_shl a hk]) kk)
theorem e_iand {a b : Nat} (hT : mT M pc = some (.iand, 1)) (kk : Ex M d (pc + 1) l (J ((a &&& b : Nat) : Int) :: st) h Q) : Ex M d pc l (J (b : Int) :: J (a : Int) :: st) h Q :=
  e_iand_raw hT (ex_Js (by rw [Int32.ofInt_toInt, ofInt_nI, ofInt_nI, ofInt_nI, nx_and9]) kk)
theorem e_ior {a b : Nat} (hT : mT M pc = some (.ior, 1)) (kk : Ex M d (pc + 1) l (J ((a ||| b : Nat) : Int) :: st) h Q) : Ex M d pc l (J (b : Int) :: J (a : Int) :: st) h Q :=
  e_ior_raw hT (ex_Js (by rw [Int32.ofInt_toInt, ofInt_nI, ofInt_nI, ofInt_nI, nx_or9]) kk)
theorem e_idiv {a b : Int} (hT : mT M pc = some (.idiv, 1)) (ha : I32 a) (hb : I32 b) (a0 : 0 ≤ a) (b0 : 0 < b) (kk : Ex M d (pc + 1) l (J (a / b) :: st) h Q) : Ex M d pc l (J b :: J a :: st) h Q :=
  e_idiv_raw hT hb (by omega) (ex_Js (by
    obtain ⟨x, rfl⟩ := Int.eq_ofNat_of_zero_le a0
    obtain ⟨y, rfl⟩ := Int.eq_ofNat_of_zero_le (Int.le_of_lt b0)
    rw [Int32.ofInt_toInt, ← Int.natCast_ediv, ofInt_nI, ofInt_nI, ofInt_nI, pk_div (by omega) (by omega) (by omega)]) kk)
theorem e_irem {a b : Int} (hT : mT M pc = some (.irem, 1)) (ha : I32 a) (hb : I32 b) (a0 : 0 ≤ a) (b0 : 0 < b) (kk : Ex M d (pc + 1) l (J (a % b) :: st) h Q) : Ex M d pc l (J b :: J a :: st) h Q :=
  e_irem_raw hT hb (by omega) (ex_Js (by
    obtain ⟨x, rfl⟩ := Int.eq_ofNat_of_zero_le a0
    obtain ⟨y, rfl⟩ := Int.eq_ofNat_of_zero_le (Int.le_of_lt b0)
    rw [Int32.ofInt_toInt, ← Int.natCast_emod, ofInt_nI, ofInt_nI, ofInt_nI, pk_rem (by omega) (by omega) (by omega)]) kk)
end BI
