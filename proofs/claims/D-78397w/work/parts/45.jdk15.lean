/-! JDK, fifteenth: bit counts -/
/-- how many of the lowest n bits are set -/
def pop (a : Nat) : Nat → Nat
  | 0 => 0
  | n + 1 => pop a n + (if a.testBit n then 1 else 0)
theorem pop_le (a n : Nat) : pop a n ≤ n := by
  induction n with
  | zero => exact Nat.le_refl _
  | succ n ih =>
    show pop a n + (if a.testBit n then 1 else 0) ≤ n + 1
    split <;> omega
theorem pop_add (a k n : Nat) : pop a (k + n) = pop a k + pop (a / 2 ^ k) n := by
  induction n with
  | zero => rfl
  | succ n ih =>
    show pop a (k + n) + (if a.testBit (k + n) then 1 else 0) = pop a k + (pop (a / 2 ^ k) n + (if (a / 2 ^ k).testBit n then 1 else 0))
    rw [ih, Nat.testBit_div_two_pow, Nat.add_comm n k]
    omega
theorem pop_mod (a k n : Nat) (h : k ≤ n) : pop (a % 2 ^ n) k = pop a k := by
  induction k with
  | zero => rfl
  | succ k ih =>
    show pop (a % 2 ^ n) k + (if (a % 2 ^ n).testBit k then 1 else 0) = pop a k + (if a.testBit k then 1 else 0)
    rw [ih (by omega), Nat.testBit_mod_two_pow]
    simp [show k < n by omega]
/-- masks and shifts go byte by byte -/
theorem and_byte (q c M m : Nat) (hc : c < 256) (hm : m < 256) : (256 * q + c) &&& (256 * M + m) = 256 * (q &&& M) + (c &&& m) := by
  apply Nat.eq_of_testBit_eq
  intro j
  have e : ∀ q c : Nat, c < 256 → (256 * q + c).testBit j = if j < 8 then c.testBit j else q.testBit (j - 8) := fun q c hc => Nat.testBit_two_pow_mul_add q (i := 8) hc j
  rw [Nat.testBit_and, e q c hc, e M m hm, e _ _ (Nat.lt_of_le_of_lt Nat.and_le_left hc)]
  split
  · rw [Nat.testBit_and]
  · rw [Nat.testBit_and]
/-- the three stages on one byte -/
def st1 (x M : Nat) : Nat := x - ((x / 2) &&& M)
def st2 (y M : Nat) : Nat := (y &&& M) + ((y / 4) &&& M)
def st3 (z M : Nat) : Nat := (z + z / 16) &&& M
theorem byte_st : ∀ c : Nat, c < 256 → (c / 2 &&& 85) ≤ c ∧ st1 c 85 < 256 ∧ st2 (st1 c 85) 51 < 128 ∧ st2 (st1 c 85) 51 + st2 (st1 c 85) 51 / 16 < 256 ∧ st3 (st2 (st1 c 85) 51) 15 = pop c 8 := by decide +kernel
theorem byte_a : ∀ b : Nat, b < 2 → ∀ c : Nat, c < 256 → (128 * b + c / 2) &&& 85 = (c / 2) &&& 85 := by decide +kernel
theorem byte_b : ∀ b : Nat, b < 4 → ∀ c : Nat, c < 256 → (64 * b + c / 4) &&& 51 = (c / 4) &&& 51 := by decide +kernel
theorem byte_c : ∀ b : Nat, b < 16 → ∀ c : Nat, c < 256 → (c + (16 * b + c / 16)) &&& 15 = (c + c / 16) &&& 15 := by decide +kernel
theorem byte_d : ∀ c : Nat, c < 256 → st2 (st1 c 85) 51 ≤ 68 ∧ st2 (st1 c 85) 51 % 16 ≤ 4 := by decide +kernel
theorem st1_b (q c M : Nat) (hc : c < 256) : st1 (256 * q + c) (256 * M + 85) = 256 * st1 q M + st1 c 85 := by
  unfold st1
  have e : (256 * q + c) / 2 = 256 * (q / 2) + (128 * (q % 2) + c / 2) := by omega
  have h1 : (q / 2) &&& M ≤ q / 2 := Nat.and_le_left
  have h2 : (c / 2) &&& 85 ≤ c / 2 := Nat.and_le_left
  rw [e, and_byte _ _ _ _ (by omega) (by omega), byte_a _ (by omega) c hc]
  omega
theorem st2_b (q c M : Nat) (hc : c < 256) : st2 (256 * q + c) (256 * M + 51) = 256 * st2 q M + st2 c 51 := by
  unfold st2
  have e : (256 * q + c) / 4 = 256 * (q / 4) + (64 * (q % 4) + c / 4) := by omega
  rw [e, and_byte q c M 51 hc (by omega), and_byte (q / 4) _ M 51 (by omega) (by omega), byte_b _ (by omega) c hc]
  omega
theorem st3_b (q c M : Nat) (hc : c ≤ 68) (hq : q % 16 ≤ 4) : st3 (256 * q + c) (256 * M + 15) = 256 * st3 q M + st3 c 15 := by
  unfold st3
  have e : 256 * q + c + (256 * q + c) / 16 = 256 * (q + q / 16) + (c + (16 * (q % 16) + c / 16)) := by omega
  rw [e, and_byte _ _ _ _ (by omega) (by omega), byte_c _ (by omega) c (by omega)]
def mk (m : Nat) : Nat → Nat
  | 0 => 0
  | n + 1 => 256 * mk m n + m
/-- the counts of the bytes, side by side -/
def bys (x : Nat) : Nat → Nat
  | 0 => 0
  | n + 1 => 256 * bys (x / 256) n + pop (x % 256) 8
theorem st_all (n : Nat) : ∀ x : Nat, x < 256 ^ n → (st2 (st1 x (mk 85 n)) (mk 51 n)) % 16 ≤ 4 ∧ st3 (st2 (st1 x (mk 85 n)) (mk 51 n)) (mk 15 n) = bys x n := by
  induction n with
  | zero =>
    intro x hx
    have : x = 0 := by
      have h9 : (256 : Nat) ^ 0 = 1 := rfl
      omega
    subst this
    exact ⟨by decide, rfl⟩
  | succ n ih =>
    intro x hx
    have hd : x / 256 < 256 ^ n := by
      rw [Nat.pow_succ] at hx
      exact Nat.div_lt_of_lt_mul (by rw [Nat.mul_comm]; exact hx)
    obtain ⟨i1, i2⟩ := ih (x / 256) hd
    have hm : x % 256 < 256 := Nat.mod_lt _ (by decide)
    obtain ⟨b1, b2, b3, b4, b5⟩ := byte_st (x % 256) hm
    obtain ⟨b6, b7⟩ := byte_d (x % 256) hm
    have e : x = 256 * (x / 256) + x % 256 := by omega
    have e2 : st2 (st1 x (mk 85 (n + 1))) (mk 51 (n + 1)) = 256 * st2 (st1 (x / 256) (mk 85 n)) (mk 51 n) + st2 (st1 (x % 256) 85) 51 := by
      conv => lhs; rw [e]
      show st2 (st1 (256 * (x / 256) + x % 256) (256 * mk 85 n + 85)) (256 * mk 51 n + 51) = _
      rw [st1_b _ _ _ hm, st2_b _ _ _ b2]
    rw [e2]
    refine ⟨by omega, ?_⟩
    show st3 (256 * st2 (st1 (x / 256) (mk 85 n)) (mk 51 n) + st2 (st1 (x % 256) 85) 51) (256 * mk 15 n + 15) = 256 * bys (x / 256) n + pop (x % 256) 8
    rw [st3_b _ _ _ b6 i1, i2, b5]
theorem pop_bys (x : Nat) : pop x 64 = pop (x % 256) 8 + pop (x / 256 % 256) 8 + pop (x / 65536 % 256) 8 + pop (x / 16777216 % 256) 8 + pop (x / 4294967296 % 256) 8 + pop (x / 1099511627776 % 256) 8 + pop (x / 281474976710656 % 256) 8 + pop (x / 72057594037927936 % 256) 8 := by
  have e : ∀ y n, pop y (8 + n) = pop (y % 256) 8 + pop (y / 256) n := fun y n => by
    rw [pop_add, show (256 : Nat) = 2 ^ 8 from rfl, pop_mod _ _ _ (Nat.le_refl _)]
  rw [show (64 : Nat) = 8 + (8 + (8 + (8 + (8 + (8 + (8 + (8 + 0))))))) from rfl, e, e, e, e, e, e, e, e]
  simp only [Nat.div_div_eq_div_mul, Nat.reduceMul]
  show _ + (_ + (_ + (_ + (_ + (_ + (_ + (_ + 0))))))) = _
  omega
theorem bys8 (x : Nat) : bys x 8 = pop (x % 256) 8 + 256 * pop (x / 256 % 256) 8 + 65536 * pop (x / 65536 % 256) 8 + 16777216 * pop (x / 16777216 % 256) 8 + 4294967296 * pop (x / 4294967296 % 256) 8 + 1099511627776 * pop (x / 1099511627776 % 256) 8 + 281474976710656 * pop (x / 281474976710656 % 256) 8 + 72057594037927936 * pop (x / 72057594037927936 % 256) 8 := by
  simp only [bys, Nat.div_div_eq_div_mul, Nat.reduceMul]
  omega
theorem fold8 (p0 p1 p2 p3 p4 p5 p6 p7 w w2 w3 w4 : Nat) (h0 : p0 ≤ 8) (h1 : p1 ≤ 8) (h2 : p2 ≤ 8) (h3 : p3 ≤ 8) (h4 : p4 ≤ 8) (h5 : p5 ≤ 8) (h6 : p6 ≤ 8) (h7 : p7 ≤ 8)
    (e : w = p0 + 256 * p1 + 65536 * p2 + 16777216 * p3 + 4294967296 * p4 + 1099511627776 * p5 + 281474976710656 * p6 + 72057594037927936 * p7)
    (e2 : w2 = w + w / 256) (e3 : w3 = w2 + w2 / 65536) (e4 : w4 = w3 + w3 / 4294967296) : w4 < 18446744073709551616 ∧ w4 % 128 = p0 + p1 + p2 + p3 + p4 + p5 + p6 + p7 := by
  have a1 : w / 256 = p1 + 256 * p2 + 65536 * p3 + 16777216 * p4 + 4294967296 * p5 + 1099511627776 * p6 + 281474976710656 * p7 := by omega
  have a2 : w2 = (p0 + p1) + 256 * (p1 + p2) + 65536 * (p2 + p3) + 16777216 * (p3 + p4) + 4294967296 * (p4 + p5) + 1099511627776 * (p5 + p6) + 281474976710656 * (p6 + p7) + 72057594037927936 * p7 := by omega
  have a3 : w2 / 65536 = (p2 + p3) + 256 * (p3 + p4) + 65536 * (p4 + p5) + 16777216 * (p5 + p6) + 4294967296 * (p6 + p7) + 1099511627776 * p7 := by omega
  have a5 : w3 / 4294967296 = (p4 + p5 + p6 + p7) + 256 * (p5 + p6 + p7) + 65536 * (p6 + p7) + 16777216 * p7 := by omega
  omega
/-- Long.bitCount -/
theorem c_bitsL {x : Nat} {h : AH} (hx : x < 18446744073709551616) : Call MJ20_bitCount 1 [G x] h (Ret fun v h1 => v = some (J (pop x 64)) ∧ h1 = h) := by
  obtain ⟨-, hst⟩ := st_all 8 x (by show x < 256 ^ 8; exact hx)
  rw [show mk 85 8 = 6148914691236517205 by decide, show mk 51 8 = 3689348814741910323 by decide, show mk 15 8 = 1085102592571150095 by decide] at hst
  have b1 : (x / 2) &&& 6148914691236517205 ≤ x / 2 := Nat.and_le_left
  have c1 : st1 x 6148914691236517205 < 18446744073709551616 := by
    unfold st1
    omega
  have c2 : st2 (st1 x 6148914691236517205) 3689348814741910323 < 18446744073709551616 := by
    unfold st2
    have h1 : st1 x 6148914691236517205 &&& 3689348814741910323 ≤ 3689348814741910323 := Nat.and_le_right
    have h2 : st1 x 6148914691236517205 / 4 &&& 3689348814741910323 ≤ 3689348814741910323 := Nat.and_le_right
    omega
  refine call_of okJ20_bitCount (by decide +kernel) (Nat.le_of_ble_eq_true rfl) ?_
  refine e_run 3 3 rfl ?_
  refine e_lushrN (k := 1) rfl hx (by decide) ?_
  refine e_ldc2 6148914691236517205 kcJ20_314 rfl rfl ?_
  refine e_landN (b := 6148914691236517205) rfl ?_
  refine e_run 2 10 rfl ?_
  rw [show (x : Int) - ((x / 2 ^ 1 &&& 6148914691236517205 : Nat) : Int) = ((st1 x 6148914691236517205 : Nat) : Int) by unfold st1; show (x : Int) - ((x / 2 &&& 6148914691236517205 : Nat) : Int) = _; omega]
  generalize st1 x 6148914691236517205 = y at c1 c2 hst
  refine e_run 1 11 rfl ?_
  refine e_ldc2 3689348814741910323 kcJ20_316 rfl rfl ?_
  refine e_landN (b := 3689348814741910323) rfl ?_
  refine e_run 2 17 rfl ?_
  refine e_lushrN (k := 2) rfl c1 (by decide) ?_
  refine e_ldc2 3689348814741910323 kcJ20_316 rfl rfl ?_
  refine e_landN (b := 3689348814741910323) rfl ?_
  refine e_run 2 24 rfl ?_
  rw [show ((y &&& 3689348814741910323 : Nat) : Int) + ((y / 2 ^ 2 &&& 3689348814741910323 : Nat) : Int) = ((st2 y 3689348814741910323 : Nat) : Int) from rfl]
  generalize st2 y 3689348814741910323 = z at c2 hst
  refine e_run 3 27 rfl ?_
  refine e_lushrN (k := 4) rfl c2 (by decide) ?_
  refine e_run 1 29 rfl ?_
  refine e_ldc2 1085102592571150095 kcJ20_318 rfl rfl ?_
  rw [show (z : Int) + ((z / 2 ^ 4 : Nat) : Int) = ((z + z / 16 : Nat) : Int) from rfl]
  refine e_landN (b := 1085102592571150095) rfl ?_
  rw [show z + z / 16 &&& 1085102592571150095 = bys x 8 from hst]
  have hw := bys8 x
  have hp := pop_bys x
  generalize bys x 8 = w at hw
  have f0 := pop_le (x % 256) 8
  have f1 := pop_le (x / 256 % 256) 8
  have f2 := pop_le (x / 65536 % 256) 8
  have f3 := pop_le (x / 16777216 % 256) 8
  have f4 := pop_le (x / 4294967296 % 256) 8
  have f5 := pop_le (x / 1099511627776 % 256) 8
  have f6 := pop_le (x / 281474976710656 % 256) 8
  have f7 := pop_le (x / 72057594037927936 % 256) 8
  have hf := fold8 _ _ _ _ _ _ _ _ w _ _ _ f0 f1 f2 f3 f4 f5 f6 f7 hw rfl rfl rfl
  rw [← hp] at hf
  refine e_run 4 38 rfl ?_
  refine e_lushrN (k := 8) rfl (by omega) (by decide) ?_
  refine e_run 2 41 rfl ?_
  rw [show (w : Int) + ((w / 2 ^ 8 : Nat) : Int) = ((w + w / 256 : Nat) : Int) from rfl]
  refine e_run 3 45 rfl ?_
  refine e_lushrN (k := 16) rfl (by omega) (by decide) ?_
  refine e_run 2 48 rfl ?_
  rw [show ((w + w / 256 : Nat) : Int) + (((w + w / 256) / 2 ^ 16 : Nat) : Int) = ((w + w / 256 + (w + w / 256) / 65536 : Nat) : Int) from rfl]
  refine e_run 3 52 rfl ?_
  refine e_lushrN (k := 32) rfl (by omega) (by decide) ?_
  refine e_run 3 56 rfl ?_
  rw [show ((w + w / 256 + (w + w / 256) / 65536 : Nat) : Int) + (((w + w / 256 + (w + w / 256) / 65536) / 2 ^ 32 : Nat) : Int) = ((w + w / 256 + (w + w / 256) / 65536 + (w + w / 256 + (w + w / 256) / 65536) / 4294967296 : Nat) : Int) from rfl]
  refine e_l2iN rfl ?_
  refine e_run 1 59 rfl ?_
  refine e_iand (b := 127) rfl ?_
  refine ex_ireturn rfl ⟨_, rfl, rfl⟩ ?_
  refine ⟨_, rfl, ?_, rfl⟩
  rw [show (127 : Nat) = 2 ^ 7 - 1 from rfl, Nat.and_two_pow_sub_one_eq_mod, Nat.mod_mod_of_dvd _ (show 2 ^ 7 ∣ 4294967296 by decide)]
  show some (J (((_ % 128 : Nat)) : Int)) = _
  rw [hf.2]
