/-! JDK, eighth: BitSet.clear(i), set(i, is) -/
theorem recalc_loop {h : AH} {a w n b : Nat} {W : Nat → Nat} {tg : Tg} {s : Int} (hA1 : h.1 a = some (tg, oObj 18 [Rf b, J w, J s])) (t0 : tg.1 = 3) (hB : h.1 b = some ((4, a), oArr 3 n (fun k => (W k : Int)))) (hwn : w ≤ n) (n3 : n ≤ 100) (hW : ∀ k, W k < 18446744073709551616) (k : Nat) :
    ∀ (l : Lc), k ≤ w → (∀ j, k ≤ j → W j = 0) → LSub l [(1, J ((k : Int) - 1)), (0, Rf a)] →
    Ex MJ6_recalculateWordsInUse 1 7 l [] h (Ret fun v h1 => v = none ∧ ∃ w' : Nat, w' ≤ w ∧ (∀ j, w' ≤ j → W j = 0) ∧ h1 = hset h a (tg, oObj 18 [Rf b, J w', J s])) := by
  induction k with
  | zero =>
    intro l hk hz hl
    refine ex_loc _ hl ?_
    refine e_run 1 8 rfl ?_
    refine e_iflt 31 rfl rfl (by omega) (fun c1 => ?_) (fun c1 => ?_)
    · refine e_run 4 35 rfl ?_
      refine e_putf fwJ6_7 rfl hA1 (by first | decide | omega) (Nat.le_of_ble_eq_true rfl) (pn_int _) ?_
      refine ex_return rfl rfl ?_
      exact ⟨_, rfl, rfl, 0, Nat.zero_le _, hz, rfl⟩
    · omega
  | succ k ih =>
    intro l hk hz hl
    refine ex_loc _ hl ?_
    refine e_run 1 8 rfl ?_
    refine e_iflt 31 rfl rfl (by omega) (fun c1 => ?_) (fun c1 => ?_)
    · omega
    refine e_run 1 12 rfl ?_
    refine e_getf fwJ6_11 rfl hA1 rfl ?_
    refine e_run 1 16 rfl ?_
    refine e_lald rfl hB (by omega) (by omega) (by omega) ?_
    rw [show (((k + 1 : Nat) : Int) - 1).toNat = k by omega]
    refine ex_Gn ?_
    refine e_run 1 18 rfl ?_
    refine e_lcmpeq 25 rfl rfl rfl (sg_I (hW k)) (by decide) (fun c3 => ?_) (fun c3 => ?_)
    · have h0 : W k = 0 := (sg_0 (hW k)).mp c3
      refine e_run 2 7 rfl ?_
      refine ih _ (by omega) (fun j hj => ?_) ⟨?_, rfl, trivial⟩
      · by_cases e : j = k
        · rw [e, h0]
        · exact hz j (by omega)
      · show some (J (((k + 1 : Nat) : Int) - 1 + -1)) = some (J ((k : Int) - 1))
        congr 2
        omega
    · refine e_run 5 35 rfl ?_
      refine e_putf fwJ6_7 rfl hA1 (by first | decide | omega) (Nat.le_of_ble_eq_true rfl) (pn_int _) ?_
      refine ex_return rfl rfl ?_
      refine ⟨_, rfl, rfl, k + 1, hk, hz, ?_⟩
      show hset h a (tg, oObj 18 [Rf b, J (((k + 1 : Nat) : Int) - 1 + 1), J s]) = _
      rw [show ((k + 1 : Nat) : Int) - 1 + 1 = ((k + 1 : Nat) : Int) by omega]
theorem c_bsRecalc {h : AH} {a w n b : Nat} {W : Nat → Nat} {tg : Tg} {s : Int} (hA1 : h.1 a = some (tg, oObj 18 [Rf b, J w, J s])) (t0 : tg.1 = 3) (hB : h.1 b = some ((4, a), oArr 3 n (fun k => (W k : Int)))) (hwn : w ≤ n) (n3 : n ≤ 100) (hW : ∀ k, W k < 18446744073709551616) (hz : ∀ j, w ≤ j → W j = 0) :
    Call MJ6_recalculateWordsInUse 1 [Rf a] h (Ret fun v h1 => v = none ∧ ∃ w' : Nat, w' ≤ w ∧ (∀ j, w' ≤ j → W j = 0) ∧ h1 = hset h a (tg, oObj 18 [Rf b, J w', J s])) := by
  refine call_of okJ6_recalculateWordsInUse (by decide +kernel) (Nat.le_of_ble_eq_true rfl) ?_
  refine e_run 1 1 rfl ?_
  refine e_getf fwJ6_7 rfl hA1 rfl ?_
  refine e_run 3 7 rfl ?_
  exact recalc_loop hA1 t0 hB hwn n3 hW w _ (Nat.le_refl _) hz ⟨rfl, rfl, trivial⟩
/-- bits.clear(i) -/
theorem c_bsClr {h : AH} {a i : Nat} {W : Nat → Nat} {w n : Nat} (hA : BS h a W w n) (hi : i < 2048) (hS : h.2.2.2 2 = J 1) : Call MJ6_clear 2 [Rf a, J i] h (Ret fun v h1 => v = none ∧ (∃ (W' : Nat → Nat) (w' : Nat), BS h1 a W' w' n ∧ (∀ j, bsb W' j = (bsb W j && decide (j ≠ i)))) ∧ FrA a h h1 ∧ h1.2.1 = h.2.1 ∧ h1.2.2.1 = h.2.2.1) := by
  obtain ⟨tg, b, s, hA1, t0, hB, n1, n2, n3, hW, hz⟩ := id hA
  have hne : b ≠ a := by
    intro e
    rw [e, hA1] at hB
    cases hB
  refine call_of okJ6_clear (by decide +kernel) (Nat.le_of_ble_eq_true rfl) ?_
  refine e_run 1 1 rfl ?_
  refine e_ifge 31 rfl rfl (by omega) (fun c1 => ?_) (fun c1 => ?_)
  rotate_left
  · omega
  refine e_run 1 32 rfl ?_
  refine e_is1 (by decide) lksJ6_52 rfl (Nat.le_of_ble_eq_true rfl) (c_bsWord (by omega)) fun v h3 w3 g3 hP => ?_
  obtain ⟨rfl, rfl⟩ := hP
  refine e_run 3 38 rfl ?_
  refine e_getf fwJ6_7 rfl hA1 rfl ?_
  refine e_icmplt 45 rfl rfl (by omega) (by omega) (fun c2 => ?_) (fun c2 => ?_)
  rotate_left
  · refine ex_return rfl rfl ?_
    refine ⟨_, rfl, rfl, ⟨W, w, hA, fun j => ?_⟩, FrA.rf a h3, rfl, rfl⟩
    by_cases e : j = i
    · subst e
      unfold bsb
      rw [hz (j / 64) (by omega), Nat.zero_testBit]
      rfl
    · simp [e]
  refine e_run 1 46 rfl ?_
  refine e_getf fwJ6_11 rfl hA1 rfl ?_
  refine e_run 2 51 rfl ?_
  refine e_lald rfl hB (by omega) (by omega) (by omega) ?_
  refine e_run 2 54 rfl ?_
  refine e_lshl2 rfl hi ?_
  rw [Int.toNat_natCast, show (((1 : Fin 2).val : Nat) : Int) * 2 ^ (i % 64) = ((2 ^ (i % 64) : Nat) : Int) by rw [Int.natCast_pow]; show (1 : Int) * _ = _; rw [Int.one_mul]; rfl]
  refine e_ldc2 (-1) kcJ6_165 rfl rfl ?_
  refine ex_Gs (b := ((18446744073709551615 : Nat) : Int)) (by decide) ?_
  refine e_lxorN rfl ?_
  refine e_landN rfl ?_
  refine e_last rfl hB (show (4 : Nat) ≠ 0 by decide) (by omega) (by omega) (by omega) ?_
  have hW' : ∀ k, (fun k => if k = i / 64 then W k &&& (2 ^ (i % 64) ^^^ 18446744073709551615) else W k) k < 18446744073709551616 := fun k => by
    show (if k = i / 64 then W k &&& (2 ^ (i % 64) ^^^ 18446744073709551615) else W k) < _
    split
    · exact Nat.lt_of_le_of_lt Nat.and_le_left (hW k)
    · exact hW k
  have hB2 : (hset h3 b ((4, a), oArr 3 n (va_up (fun k => (W k : Int)) ((i / 64 : Nat) : Int).toNat ((W (i / 64) &&& (2 ^ (i % 64) ^^^ 18446744073709551615) : Nat) : Int)))).1 b = some ((4, a), oArr 3 n (fun k => (((fun k => if k = i / 64 then W k &&& (2 ^ (i % 64) ^^^ 18446744073709551615) else W k) k : Nat) : Int))) := by
    rw [hset_at]
    congr 3
    funext k
    show (if k = ((i / 64 : Nat) : Int).toNat then ((W (i / 64) &&& (2 ^ (i % 64) ^^^ 18446744073709551615) : Nat) : Int) else (W k : Int)) = (((if k = i / 64 then W k &&& (2 ^ (i % 64) ^^^ 18446744073709551615) else W k) : Nat) : Int)
    rw [Int.toNat_natCast]
    split
    · rename_i e
      rw [e]
    · rfl
  have hA2 := (hset_ne (x := ((4, a), oArr 3 n (va_up (fun k => (W k : Int)) ((i / 64 : Nat) : Int).toNat ((W (i / 64) &&& (2 ^ (i % 64) ^^^ 18446744073709551615) : Nat) : Int)))) (Ne.symm hne)).trans hA1
  have hz' : ∀ j, w ≤ j → (fun k => if k = i / 64 then W k &&& (2 ^ (i % 64) ^^^ 18446744073709551615) else W k) j = 0 := fun j hj => by
    show (if j = i / 64 then W j &&& (2 ^ (i % 64) ^^^ 18446744073709551615) else W j) = 0
    rw [hz j hj]
    split
    · exact Nat.zero_and _
    · rfl
  refine e_run 1 62 rfl ?_
  refine e_iv0 (by decide) lkvJ6_158 rfl hA2 (Nat.le_of_ble_eq_true rfl) (c_bsRecalc hA2 t0 hB2 n2 n3 hW' hz') fun v h4 w4 g4 hP => ?_
  obtain ⟨rfl, w', hw1, hw2, rfl⟩ := hP
  refine e_run 1 66 rfl ?_
  refine e_iv0 (by decide) lkvJ6_56 rfl hset_at (Nat.le_of_ble_eq_true rfl) (c_bsInv hS) fun v h5 w5 g5 hP => ?_
  obtain ⟨rfl, rfl⟩ := hP
  refine ex_return rfl rfl ?_
  refine ⟨_, rfl, rfl, ⟨_, w', ⟨tg, b, s, hset_at, t0, (hset_ne hne).trans hB2, n1, by omega, n3, hW', hw2⟩, fun j => ?_⟩, fun q x hq hqa hq4 => ?_, rfl, rfl⟩
  · unfold bsb
    show (if j / 64 = i / 64 then W (j / 64) &&& (2 ^ (i % 64) ^^^ 18446744073709551615) else W (j / 64)).testBit (j % 64) = _
    have hjm : j % 64 < 64 := Nat.mod_lt _ (by decide)
    by_cases e : j / 64 = i / 64
    · rw [if_pos e, Nat.testBit_and, Nat.testBit_xor, Nat.testBit_two_pow, show (18446744073709551615 : Nat) = 2 ^ 64 - 1 from rfl, Nat.testBit_two_pow_sub_one]
      congr 1
      by_cases e2 : i % 64 = j % 64
      · have : j = i := by omega
        simp [e2, hjm, this]
      · have : ¬ j = i := by
          intro e3
          rw [e3] at e2
          exact e2 rfl
        simp [e2, hjm, this]
    · rw [if_neg e]
      have : ¬ j = i := by
        intro e3
        rw [e3] at e
        exact e rfl
      simp [this]
  · refine (hset_ne hqa).trans ((hset_ne ?_).trans hq)
    intro e
    rw [e, hB] at hq
    obtain rfl := Option.some.inj hq
    exact hq4 rfl
/-- bits.set(i, is) -/
theorem c_bsSetB {h : AH} {a i : Nat} {z : Int} {W : Nat → Nat} {w n : Nat} (hA : BS h a W w n) (hi : i < 2048) (hz : z = 0 ∨ z = 1) (hS : h.2.2.2 2 = J 1) : Call MJ6_set 7 [Rf a, J i, J z] h (Ret fun v h1 => v = none ∧ (∃ (W' : Nat → Nat) (w' n' : Nat), BS h1 a W' w' n' ∧ n ≤ n' ∧ (i / 64 < n → n' = n) ∧ (∀ j, bsb W' j = if j = i then decide (z = 1) else bsb W j)) ∧ FrA a h h1 ∧ (i / 64 < n → h1.2.1 = h.2.1 ∧ h1.2.2.1 = h.2.2.1)) := by
  obtain ⟨tg, b, s, hA1, -⟩ := id hA
  refine call_of okJ6_set (by decide +kernel) (Nat.le_of_ble_eq_true rfl) ?_
  refine e_run 1 1 rfl ?_
  refine e_ifeq 12 rfl rfl (by omega) (fun c1 => ?_) (fun c1 => ?_)
  · refine e_run 2 14 rfl ?_
    refine e_iv1 (by decide) lkvJ6_170 rfl hA1 (Nat.le_of_ble_eq_true rfl) (c_bsClr hA hi hS) fun v h2 w2 g2 hP => ?_
    obtain ⟨rfl, ⟨W', w', hB', hb'⟩, hF, hs1, hs2⟩ := hP
    refine ex_return rfl rfl ?_
    refine ⟨_, rfl, rfl, ⟨W', w', n, hB', Nat.le_refl _, fun _ => rfl, fun j => ?_⟩, hF, fun _ => ⟨hs1, hs2⟩⟩
    rw [hb']
    by_cases e : j = i
    · simp [e, c1]
    · simp [e]
  · have hz1 : z = 1 := by omega
    refine e_run 2 6 rfl ?_
    refine e_iv1 (by decide) lkvJ6_167 rfl hA1 (Nat.le_of_ble_eq_true rfl) (c_bsSet hA hi hS) fun v h2 w2 g2 hP => ?_
    obtain ⟨rfl, hB', hF, hs1, hs2⟩ := hP
    refine e_run 1 17 rfl ?_
    refine ex_return rfl rfl ?_
    refine ⟨_, rfl, rfl, ⟨_, _, _, hB', by unfold bcap; split <;> omega, fun h9 => by unfold bcap; rw [if_neg (by omega)], fun j => ?_⟩, hF, fun h9 => ⟨by rw [hs1, if_neg (by omega)]; rfl, by rw [hs2, if_neg (by omega)]; rfl⟩⟩
    unfold bsb
    show (if j / 64 = i / 64 then W (j / 64) ||| 2 ^ (i % 64) else W (j / 64)).testBit (j % 64) = _
    by_cases e : j / 64 = i / 64
    · rw [if_pos e, Nat.testBit_or, Nat.testBit_two_pow]
      by_cases e2 : i % 64 = j % 64
      · have : j = i := by omega
        simp [e2, this, hz1]
      · have : ¬ j = i := by
          intro e3
          rw [e3] at e2
          exact e2 rfl
        simp [e2, this]
    · rw [if_neg e]
      have : ¬ j = i := by
        intro e3
        rw [e3] at e
        exact e rfl
      simp [this]
