/-! JDK, fifth: Integer's and Long's bit counts; abs -/
theorem tz_mask {a n : Nat} (ha : a < 4294967296) (h1 : a.testBit n = true) (h2 : ∀ j, j < n → a.testBit j = false) : (a ^^^ 4294967295) &&& (a - 1) = 2 ^ n - 1 := by
  have e1 : a % 2 ^ (n + 1) = 2 ^ n := by
    apply Nat.eq_of_testBit_eq
    intro j
    rw [Nat.testBit_mod_two_pow, Nat.testBit_two_pow]
    by_cases hj : j < n + 1
    · by_cases hn : n = j
      · subst hn
        simp [h1]
      · have : j < n := by omega
        simp [h2 j this, hn]
    · have : ¬ n = j := by omega
      simp [hj, this]
  have hp : 0 < 2 ^ n := Nat.two_pow_pos n
  have e2 : a - 1 = 2 ^ (n + 1) * (a / 2 ^ (n + 1)) + (2 ^ n - 1) := by
    have := Nat.div_add_mod a (2 ^ (n + 1))
    omega
  have e3 : a = 2 ^ (n + 1) * (a / 2 ^ (n + 1)) + 2 ^ n := by
    have := Nat.div_add_mod a (2 ^ (n + 1))
    omega
  have hlt : 2 ^ n < 2 ^ (n + 1) := Nat.pow_lt_pow_right (by decide) (by omega)
  apply Nat.eq_of_testBit_eq
  intro j
  rw [Nat.testBit_and, Nat.testBit_xor, show (4294967295 : Nat) = 2 ^ 32 - 1 from rfl, Nat.testBit_two_pow_sub_one, Nat.testBit_two_pow_sub_one]
  have t1 : (a - 1).testBit j = if j < n + 1 then (2 ^ n - 1).testBit j else (a / 2 ^ (n + 1)).testBit (j - (n + 1)) := by
    rw [e2, Nat.testBit_two_pow_mul_add _ (by omega)]
  have t2 : a.testBit j = if j < n + 1 then (2 ^ n).testBit j else (a / 2 ^ (n + 1)).testBit (j - (n + 1)) := by
    conv => lhs; rw [e3]
    rw [Nat.testBit_two_pow_mul_add _ hlt]
  have t3 : 32 ≤ j → a.testBit j = false := fun hj => Nat.testBit_lt_two_pow (Nat.lt_of_lt_of_le ha (Nat.pow_le_pow_right (n := 2) (by decide) hj))
  have hn32 : n < 32 := by
    apply Classical.byContradiction
    intro hn
    rw [Nat.testBit_lt_two_pow (Nat.lt_of_lt_of_le ha (Nat.pow_le_pow_right (n := 2) (by decide) (show 32 ≤ n by omega)))] at h1
    cases h1
  by_cases hj : j < n + 1
  · rw [if_pos hj] at t1
    rw [t1, Nat.testBit_two_pow_sub_one]
    by_cases hjn : j < n
    · simp [h2 j hjn, hjn, show j < 32 by omega]
    · simp [hjn]
  · rw [if_neg hj] at t1 t2
    rw [t1, ← t2]
    by_cases h32 : j < 32
    · cases a.testBit j <;> simp [h32] <;> omega
    · rw [t3 (by omega)]
      simp
      omega
theorem tz_pw : ∀ m : Nat, m < 32 → (1 ≤ 2 ^ m ∧ (1 ≤ m → 2 ≤ 2 ^ m) ∧ 2 ^ m ≤ 2147483648 ∧ (m ≤ 16 → 2 ^ m ≤ 65536) ∧ (17 ≤ m → 131072 ≤ 2 ^ m) ∧ (m ≤ 8 → 2 ^ m ≤ 256) ∧ (9 ≤ m → 512 ≤ 2 ^ m) ∧ (m ≤ 4 → 2 ^ m ≤ 16) ∧ (5 ≤ m → 32 ≤ 2 ^ m) ∧ (m ≤ 2 → 2 ^ m ≤ 4) ∧ (3 ≤ m → 8 ≤ 2 ^ m)) := by decide +kernel
theorem tz_sh : ∀ m : Nat, m < 32 → ∀ k : Nat, k < 32 → k ≤ m → (2 ^ m - 1) / 2 ^ k = 2 ^ (m - k) - 1 := by decide +kernel
def TzP (c : Int) (m : Nat) (h : AH) : AO → AH → Prop := Ret fun v h1 => v = some (J (c + m - 1)) ∧ h1 = h
theorem tz_4 {h : AH} (m : Nat) (c : Int) (l : Lc) (h1 : 1 ≤ m) (h2 : m ≤ 2) (hl : LSub l [(0, J ((2 ^ m - 1 : Nat) : Int)), (1, J c)]) : Ex MJ21_numberOfTrailingZeros 1 74 l [] h (TzP c m h) := by
  refine ex_loc _ hl ?_
  obtain ⟨p0, p1, p2, -, -, -, -, -, -, p9, p10⟩ := tz_pw m (by omega)
  refine e_run 3 77 rfl ?_
  refine e_iushrN (k := 1) rfl (by omega) (by omega) ?_
  refine e_run 1 79 rfl ?_
  refine ex_ireturn rfl ⟨_, rfl, rfl⟩ ?_
  rw [tz_sh m (by omega) 1 (by omega) h1]
  refine ⟨_, rfl, ?_, rfl⟩
  congr 2
  have : m = 1 ∨ m = 2 := by omega
  rcases this with rfl | rfl
  · show c + 0 = c + 1 - 1
    omega
  · show c + 1 = c + 2 - 1
    omega
theorem tz_3 {h : AH} (m : Nat) (c : Int) (l : Lc) (h1 : 1 ≤ m) (h2 : m ≤ 4) (hl : LSub l [(0, J ((2 ^ m - 1 : Nat) : Int)), (1, J c)]) : Ex MJ21_numberOfTrailingZeros 1 62 l [] h (TzP c m h) := by
  refine ex_loc _ hl ?_
  obtain ⟨p0, p1, p2, -, -, -, -, -, -, p9, p10⟩ := tz_pw m (by omega)
  refine e_run 2 64 rfl ?_
  refine e_icmple 74 rfl rfl (by omega) (by omega) (fun c1 => ?_) (fun c1 => ?_)
  · exact tz_4 m c _ h1 (by omega) ⟨rfl, rfl, trivial⟩
  · refine e_run 3 72 rfl ?_
    refine e_iushrN (k := 2) rfl (by omega) (by omega) ?_
    refine e_run 1 74 rfl ?_
    rw [tz_sh m (by omega) 2 (by omega) (by omega)]
    refine ex_post (tz_4 (m - 2) (c + 2) _ (by omega) (by omega) ⟨rfl, rfl, trivial⟩) fun o h' _ _ hq => ?_
    obtain ⟨v, rfl, rfl, rfl⟩ := hq
    exact ⟨_, rfl, by congr 2; omega, rfl⟩
theorem tz_2 {h : AH} (m : Nat) (c : Int) (l : Lc) (h1 : 1 ≤ m) (h2 : m ≤ 8) (hl : LSub l [(0, J ((2 ^ m - 1 : Nat) : Int)), (1, J c)]) : Ex MJ21_numberOfTrailingZeros 1 49 l [] h (TzP c m h) := by
  refine ex_loc _ hl ?_
  obtain ⟨p0, p1, p2, -, -, -, -, p7, p8, -, -⟩ := tz_pw m (by omega)
  refine e_run 2 52 rfl ?_
  refine e_icmple 62 rfl rfl (by omega) (by omega) (fun c1 => ?_) (fun c1 => ?_)
  · exact tz_3 m c _ h1 (by omega) ⟨rfl, rfl, trivial⟩
  · refine e_run 3 60 rfl ?_
    refine e_iushrN (k := 4) rfl (by omega) (by omega) ?_
    refine e_run 1 62 rfl ?_
    rw [tz_sh m (by omega) 4 (by omega) (by omega)]
    refine ex_post (tz_3 (m - 4) (c + 4) _ (by omega) (by omega) ⟨rfl, rfl, trivial⟩) fun o h' _ _ hq => ?_
    obtain ⟨v, rfl, rfl, rfl⟩ := hq
    exact ⟨_, rfl, by congr 2; omega, rfl⟩
theorem tz_1 {h : AH} (m : Nat) (c : Int) (l : Lc) (h1 : 1 ≤ m) (h2 : m ≤ 16) (hl : LSub l [(0, J ((2 ^ m - 1 : Nat) : Int)), (1, J c)]) : Ex MJ21_numberOfTrailingZeros 1 34 l [] h (TzP c m h) := by
  refine ex_loc _ hl ?_
  obtain ⟨p0, p1, p2, -, -, p5, p6, -⟩ := tz_pw m (by omega)
  refine e_run 2 38 rfl ?_
  refine e_icmple 49 rfl rfl (by omega) (by omega) (fun c1 => ?_) (fun c1 => ?_)
  · exact tz_2 m c _ h1 (by omega) ⟨rfl, rfl, trivial⟩
  · refine e_run 3 47 rfl ?_
    refine e_iushrN (k := 8) rfl (by omega) (by omega) ?_
    refine e_run 1 49 rfl ?_
    rw [tz_sh m (by omega) 8 (by omega) (by omega)]
    refine ex_post (tz_2 (m - 8) (c + 8) _ (by omega) (by omega) ⟨rfl, rfl, trivial⟩) fun o h' _ _ hq => ?_
    obtain ⟨v, rfl, rfl, rfl⟩ := hq
    exact ⟨_, rfl, by congr 2; omega, rfl⟩
/-- Integer.numberOfTrailingZeros -/
theorem c_ntz {a n : Nat} {h : AH} (ha : a < 4294967296) (h1 : a.testBit n = true) (h2 : ∀ j, j < n → a.testBit j = false) : Call MJ21_numberOfTrailingZeros 1 [J a] h (Ret fun v h1 => v = some (J n) ∧ h1 = h) := by
  have hn : n < 32 := by
    apply Classical.byContradiction
    intro hn
    rw [Nat.testBit_lt_two_pow (Nat.lt_of_lt_of_le ha (Nat.pow_le_pow_right (n := 2) (by decide) (show 32 ≤ n by omega)))] at h1
    cases h1
  have ha0 : a ≠ 0 := by
    intro e
    rw [e, Nat.zero_testBit] at h1
    cases h1
  obtain ⟨p0, p1, p2, p3, p4, -⟩ := tz_pw n hn
  refine call_of okJ21_numberOfTrailingZeros (by decide +kernel) (Nat.le_of_ble_eq_true rfl) ?_
  refine e_run 2 2 rfl ?_
  refine ex_Js (b := ((4294967295 : Nat) : Int)) (by decide) ?_
  refine e_ixorN rfl ?_
  refine e_run 3 6 rfl ?_
  rw [show (a : Int) - 1 = ((a - 1 : Nat) : Int) by omega]
  refine e_iand rfl ?_
  rw [tz_mask ha h1 h2]
  refine e_run 2 9 rfl ?_
  refine e_ifgt 17 rfl rfl (by omega) (fun c1 => ?_) (fun c1 => ?_)
  · have hn1 : 1 ≤ n := by
      apply Classical.byContradiction
      intro h9
      have : n = 0 := by omega
      subst this
      exact absurd c1 (by decide)
    refine e_run 3 20 rfl ?_
    refine e_ldcw 65536 kcJ21_264 rfl rfl ?_
    refine e_icmple 34 rfl rfl (by omega) (by omega) (fun c2 => ?_) (fun c2 => ?_)
    · refine ex_post (tz_1 n 1 _ hn1 (by omega) ⟨rfl, rfl, trivial⟩) fun o h' _ _ hq => ?_
      obtain ⟨v, rfl, rfl, rfl⟩ := hq
      exact ⟨_, rfl, by congr 2; omega, rfl⟩
    · refine e_run 3 32 rfl ?_
      refine e_iushrN (k := 16) rfl (by omega) (by omega) ?_
      refine e_run 1 34 rfl ?_
      rw [tz_sh n hn 16 (by omega) (by omega)]
      refine ex_post (tz_1 (n - 16) (1 + 16) _ (by omega) (by omega) ⟨rfl, rfl, trivial⟩) fun o h' _ _ hq => ?_
      obtain ⟨v, rfl, rfl, rfl⟩ := hq
      exact ⟨_, rfl, by congr 2; omega, rfl⟩
  · have hn0 : n = 0 := by omega
    subst hn0
    refine e_run 2 15 rfl ?_
    refine e_iand (b := 32) rfl ?_
    refine ex_ireturn rfl ⟨_, rfl, rfl⟩ ?_
    exact ⟨_, rfl, rfl, rfl⟩
section BN2
variable {M : MD} {d pc : Nat} {l : Lc} {st : List AV} {h : AH} {Q : AO → AH → Prop}
theorem mod32 (a : Nat) : Int32.ofInt (a : Int) = Int32.ofInt ((a % 4294967296 : Nat) : Int) := by
  apply Int32.toBitVec_inj.mp
  show BitVec.ofInt 32 (a : Int) = BitVec.ofInt 32 ((a % 4294967296 : Nat) : Int)
  apply BitVec.eq_of_toNat_eq
  rw [BitVec.toNat_ofInt, BitVec.toNat_ofInt]
  congr 1
  show (a : Int) % 4294967296 = ((a % 4294967296 : Nat) : Int) % 4294967296
  omega
theorem e_l2iN {a : Nat} (hT : mT M pc = some (.l2i, 1)) (k : Ex M d (pc + 1) l (J ((a % 4294967296 : Nat) : Int) :: st) h Q) : Ex M d pc l (G (a : Int) :: st) h Q := by
  refine ex_of k fun o h' r => ?_
  intro D b0 la p e R s m args below meth c s0 C h1 h2 h3 h4 H locs ls hR hlo hA hl
  refine lv_l2i C.1 rfl (C.2.1 _ _ hT) ?_ (r D b0 la p e R s m args below meth c s0 C h1 h2 h3 h4 H locs ls hR hlo hA hl)
  rw [ofInt_lN, lN_i, ← mod32, ofInt_nI]
end BN2
/-- Long.numberOfTrailingZeros -/
theorem c_ntzL {a n : Nat} {h : AH} (ha : a < 18446744073709551616) (h1 : a.testBit n = true) (h2 : ∀ j, j < n → a.testBit j = false) : Call MJ20_numberOfTrailingZeros 2 [G a] h (Ret fun v h1 => v = some (J n) ∧ h1 = h) := by
  have ha0 : a ≠ 0 := by
    intro e
    rw [e, Nat.zero_testBit] at h1
    cases h1
  have tm : ∀ j, (a % 4294967296).testBit j = (decide (j < 32) && a.testBit j) := fun j => Nat.testBit_mod_two_pow a 32 j
  have td : ∀ j, (a / 2 ^ 32).testBit j = a.testBit (32 + j) := fun j => by rw [Nat.testBit_div_two_pow, Nat.add_comm]
  refine call_of okJ20_numberOfTrailingZeros (by decide +kernel) (Nat.le_of_ble_eq_true rfl) ?_
  refine e_run 1 1 rfl ?_
  refine e_l2iN rfl ?_
  refine e_run 2 4 rfl ?_
  refine ex_Jn ?_
  refine e_ifne 21 rfl rfl (sg32_I (Nat.mod_lt _ (by decide))) (fun c1 => ?_) (fun c1 => ?_)
  · rw [sg32_0 (Nat.mod_lt _ (by decide))] at c1
    have hn : n < 32 := by
      apply Classical.byContradiction
      intro hn
      refine c1 (Nat.eq_of_testBit_eq fun j => ?_)
      rw [tm, Nat.zero_testBit]
      by_cases hj : j < 32
      · rw [h2 j (by omega), Bool.and_false]
      · simp [hj]
    refine e_run 1 22 rfl ?_
    refine e_is1 (by decide) lksJ20_311 rfl (Nat.le_of_ble_eq_true rfl) (c_ntz (n := n) (Nat.mod_lt _ (by decide)) (by rw [tm, h1]; simp [hn]) (fun j hj => by rw [tm, h2 j hj, Bool.and_false])) fun v h3 w2 g2 hP => ?_
    obtain ⟨rfl, rfl⟩ := hP
    refine ex_ireturn rfl ⟨_, rfl, rfl⟩ ?_
    exact ⟨_, rfl, rfl, rfl⟩
  · rw [sg32_0 (Nat.mod_lt _ (by decide))] at c1
    have hn : 32 ≤ n := by
      apply Classical.byContradiction
      intro hn
      have h9 := tm n
      rw [c1, Nat.zero_testBit, h1] at h9
      simp at h9
      omega
    refine e_run 3 12 rfl ?_
    refine e_lushrN (k := 32) rfl (by omega) (by omega) ?_
    refine e_l2iN rfl ?_
    have hd : a / 2 ^ 32 < 4294967296 := Nat.div_lt_of_lt_mul (by omega)
    rw [Nat.mod_eq_of_lt hd]
    refine e_is1 (by decide) lksJ20_311 rfl (Nat.le_of_ble_eq_true rfl) (c_ntz (n := n - 32) hd (by rw [td, show 32 + (n - 32) = n by omega]; exact h1) (fun j hj => by rw [td]; exact h2 _ (by omega))) fun v h3 w2 g2 hP => ?_
    obtain ⟨rfl, rfl⟩ := hP
    refine e_run 2 25 rfl ?_
    refine ex_ireturn rfl ⟨_, rfl, rfl⟩ ?_
    exact ⟨_, rfl, by congr 2; omega, rfl⟩
theorem c_abs {a : Int} {h : AH} (ha : -2147483647 ≤ a ∧ a ≤ 2147483647) : Call MJ13_abs 1 [J a] h (Ret fun v h1 => v = some (J (if 0 ≤ a then a else -a)) ∧ h1 = h) := by
  refine call_of okJ13_abs (by decide +kernel) (Nat.le_of_ble_eq_true rfl) ?_
  refine e_run 1 1 rfl ?_
  refine e_ifge 9 rfl rfl (by omega) (fun c1 => ?_) (fun c1 => ?_)
  · refine e_run 1 10 rfl ?_
    refine ex_ireturn rfl ⟨_, rfl, rfl⟩ ?_
    exact ⟨_, rfl, by rw [if_pos c1], rfl⟩
  · refine e_run 3 10 rfl ?_
    refine ex_ireturn rfl ⟨_, rfl, rfl⟩ ?_
    exact ⟨_, rfl, by rw [if_neg c1], rfl⟩
theorem c_absl {a : Int} {h : AH} (ha : -9223372036854775807 ≤ a ∧ a ≤ 9223372036854775807) : Call MJ13_abs_2 1 [G a] h (Ret fun v h1 => v = some (G (if 0 ≤ a then a else -a)) ∧ h1 = h) := by
  refine call_of okJ13_abs_2 (by decide +kernel) (Nat.le_of_ble_eq_true rfl) ?_
  refine e_run 2 2 rfl ?_
  refine e_lcmpge 11 rfl rfl rfl (by omega) (by omega) (fun c1 => ?_) (fun c1 => ?_)
  · refine e_run 1 12 rfl ?_
    refine ex_lreturn rfl rfl ?_
    exact ⟨_, rfl, by rw [if_pos (show (0 : Int) ≤ a from c1)], rfl⟩
  · refine e_run 3 12 rfl ?_
    refine ex_lreturn rfl rfl ?_
    exact ⟨_, rfl, by rw [if_neg (show ¬ (0 : Int) ≤ a from c1)], rfl⟩
