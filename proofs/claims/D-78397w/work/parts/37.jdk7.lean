/-! JDK, seventh: BitSet's search, its emptying -/
theorem leastB (p : Nat → Bool) (n : Nat) : p n = true → ∃ m, m ≤ n ∧ p m = true ∧ ∀ j, j < m → p j = false := by
  induction n using Nat.strongRecOn with
  | ind n ih =>
    intro h
    by_cases c : ∃ j, j < n ∧ p j = true
    · obtain ⟨j, hj, hp⟩ := c
      obtain ⟨m, h1, h2, h3⟩ := ih j hj hp
      exact ⟨m, by omega, h2, h3⟩
    · refine ⟨n, Nat.le_refl _, h, fun j hj => ?_⟩
      cases e : p j
      · rfl
      · exact absurd ⟨j, hj, e⟩ c
theorem bit_ex {a : Nat} (h : a ≠ 0) : ∃ n, a.testBit n = true ∧ ∀ j, j < n → a.testBit j = false := by
  have h1 : ∃ n, a.testBit n = true := by
    apply Classical.byContradiction
    intro c
    refine h (Nat.eq_of_testBit_eq fun j => ?_)
    rw [Nat.zero_testBit]
    cases e : a.testBit j
    · rfl
    · exact absurd ⟨j, e⟩ c
  obtain ⟨n, hn⟩ := h1
  obtain ⟨m, -, h2, h3⟩ := leastB a.testBit n hn
  exact ⟨m, h2, h3⟩
def bsb (W : Nat → Nat) (i : Nat) : Bool := (W (i / 64)).testBit (i % 64)
def NextP (W : Nat → Nat) (fr : Nat) (h : AH) : AO → AH → Prop := Ret fun v h1 => h1 = h ∧ ((v = some (J (-1)) ∧ ∀ i, fr ≤ i → bsb W i = false) ∨ ∃ i : Nat, v = some (J i) ∧ fr ≤ i ∧ bsb W i = true ∧ ∀ j, fr ≤ j → j < i → bsb W j = false)
theorem next_loop {h : AH} {a fr w n b : Nat} {W : Nat → Nat} {tg : Tg} {s : Int} (hA1 : h.1 a = some (tg, oObj 18 [Rf b, J w, J s])) (hB : h.1 b = some ((4, a), oArr 3 n (fun k => (W k : Int)))) (hwn : w ≤ n) (n3 : n ≤ 100) (hW : ∀ k, W k < 18446744073709551616) (hz : ∀ k, w ≤ k → W k = 0) (k : Nat) :
    ∀ (u x : Nat) (l : Lc), u + k + 1 = w → x < 18446744073709551616 → (∀ j, j < 64 → x.testBit j = (bsb W (64 * u + j) && decide (fr ≤ 64 * u + j))) → (∀ i, fr ≤ i → i < 64 * u → bsb W i = false) → fr < 64 * (u + 1) → LSub l [(3, G (x : Int)), (2, J u), (0, Rf a), (1, J fr)] →
    Ex MJ6_nextSetBit 3 63 l [] h (NextP W fr h) := by
  induction k with
  | zero =>
    intro u x l hu hx hb hp hfu hl
    refine ex_loc _ hl ?_
    refine e_run 1 64 rfl ?_
    refine ex_Gn ?_
    refine e_run 1 65 rfl ?_
    refine e_lcmpeq 79 rfl rfl rfl (sg_I hx) (by decide) (fun c3 => ?_) (fun c3 => ?_)
    · have hx0 : x = 0 := (sg_0 hx).mp c3
      refine e_run 3 84 rfl ?_
      refine e_getf fwJ6_7 rfl hA1 rfl ?_
      refine e_icmpne 92 rfl rfl (by omega) (by omega) (fun c4 => ?_) (fun c4 => ?_)
      · omega
      refine e_run 1 91 rfl ?_
      refine ex_ireturn rfl ⟨_, rfl, rfl⟩ ?_
      refine ⟨_, rfl, rfl, Or.inl ⟨rfl, fun i hi => ?_⟩⟩
      by_cases h1 : i < 64 * u
      · exact hp i hi h1
      by_cases h2 : i < 64 * (u + 1)
      · have h9 := hb (i - 64 * u) (by omega)
        rw [hx0, Nat.zero_testBit, show 64 * u + (i - 64 * u) = i by omega] at h9
        cases e : bsb W i
        · rfl
        · rw [e] at h9
          simp at h9
          omega
      · unfold bsb
        rw [hz (i / 64) (by omega), Nat.zero_testBit]
    · have hx0 : x ≠ 0 := fun e => c3 ((sg_0 hx).mpr e)
      obtain ⟨m, hm, hm2⟩ := bit_ex hx0
      have hm64 : m < 64 := by
        apply Classical.byContradiction
        intro h9
        rw [Nat.testBit_lt_two_pow (Nat.lt_of_lt_of_le hx (Nat.pow_le_pow_right (n := 2) (by decide) (show 64 ≤ m by omega)))] at hm
        cases hm
      refine e_run 4 74 rfl ?_
      refine e_is1 (by decide) lksJ6_182 rfl (Nat.le_of_ble_eq_true rfl) (c_ntzL hx hm hm2) fun v h2 w2 g2 hP => ?_
      obtain ⟨rfl, rfl⟩ := hP
      refine e_run 1 78 rfl ?_
      refine ex_ireturn rfl ⟨_, rfl, rfl⟩ ?_
      have h9 := hb m hm64
      rw [hm] at h9
      have h10 := h9.symm
      rw [Bool.and_eq_true] at h10
      refine ⟨_, rfl, rfl, Or.inr ⟨64 * u + m, by congr 2; omega, of_decide_eq_true h10.2, h10.1, fun j hj hj2 => ?_⟩⟩
      by_cases h1 : j < 64 * u
      · exact hp j hj h1
      have h11 := hb (j - 64 * u) (by omega)
      rw [hm2 _ (by omega), show 64 * u + (j - 64 * u) = j by omega] at h11
      cases e : bsb W j
      · rfl
      · rw [e] at h11
        simp at h11
        omega
  | succ k ih =>
    intro u x l hu hx hb hp hfu hl
    refine ex_loc _ hl ?_
    refine e_run 1 64 rfl ?_
    refine ex_Gn ?_
    refine e_run 1 65 rfl ?_
    refine e_lcmpeq 79 rfl rfl rfl (sg_I hx) (by decide) (fun c3 => ?_) (fun c3 => ?_)
    · have hx0 : x = 0 := (sg_0 hx).mp c3
      refine e_run 3 84 rfl ?_
      refine e_getf fwJ6_7 rfl hA1 rfl ?_
      refine e_icmpne 92 rfl rfl (by omega) (by omega) (fun c4 => ?_) (fun c4 => ?_)
      rotate_left
      · omega
      refine e_run 1 93 rfl ?_
      refine e_getf fwJ6_11 rfl hA1 rfl ?_
      refine e_run 1 97 rfl ?_
      refine e_lald rfl hB (by omega) (by omega) (by omega) ?_
      refine e_run 2 63 rfl ?_
      refine ih (u + 1) (W (u + 1)) _ (by omega) (hW _) (fun j hj => ?_) (fun i hi hi2 => ?_) (by omega) ⟨?_, rfl, rfl, rfl, trivial⟩
      · unfold bsb
        rw [show (64 * (u + 1) + j) / 64 = u + 1 by omega, show (64 * (u + 1) + j) % 64 = j by omega]
        by_cases hf : fr ≤ 64 * (u + 1) + j
        · simp [hf]
        · omega
      · by_cases h1 : i < 64 * u
        · exact hp i hi h1
        have h9 := hb (i - 64 * u) (by omega)
        rw [hx0, Nat.zero_testBit, show 64 * u + (i - 64 * u) = i by omega] at h9
        cases e : bsb W i
        · rfl
        · rw [e] at h9
          simp at h9
          omega
      · rfl
    · have hx0 : x ≠ 0 := fun e => c3 ((sg_0 hx).mpr e)
      obtain ⟨m, hm, hm2⟩ := bit_ex hx0
      have hm64 : m < 64 := by
        apply Classical.byContradiction
        intro h9
        rw [Nat.testBit_lt_two_pow (Nat.lt_of_lt_of_le hx (Nat.pow_le_pow_right (n := 2) (by decide) (show 64 ≤ m by omega)))] at hm
        cases hm
      refine e_run 4 74 rfl ?_
      refine e_is1 (by decide) lksJ6_182 rfl (Nat.le_of_ble_eq_true rfl) (c_ntzL hx hm hm2) fun v h2 w2 g2 hP => ?_
      obtain ⟨rfl, rfl⟩ := hP
      refine e_run 1 78 rfl ?_
      refine ex_ireturn rfl ⟨_, rfl, rfl⟩ ?_
      have h9 := hb m hm64
      rw [hm] at h9
      have h10 := h9.symm
      rw [Bool.and_eq_true] at h10
      refine ⟨_, rfl, rfl, Or.inr ⟨64 * u + m, by congr 2; omega, of_decide_eq_true h10.2, h10.1, fun j hj hj2 => ?_⟩⟩
      by_cases h1 : j < 64 * u
      · exact hp j hj h1
      have h11 := hb (j - 64 * u) (by omega)
      rw [hm2 _ (by omega), show 64 * u + (j - 64 * u) = j by omega] at h11
      cases e : bsb W j
      · rfl
      · rw [e] at h11
        simp at h11
        omega
theorem c_bsNext {h : AH} {a fr : Nat} {W : Nat → Nat} {w n : Nat} (hA : BS h a W w n) (hf : fr < 2048) (hS : h.2.2.2 2 = J 1) : Call MJ6_nextSetBit 4 [Rf a, J fr] h (NextP W fr h) := by
  obtain ⟨tg, b, s, hA1, t0, hB, n1, n2, n3, hW, hz⟩ := hA
  refine call_of okJ6_nextSetBit (by decide +kernel) (Nat.le_of_ble_eq_true rfl) ?_
  refine ex_depth (d' := 3) (by decide) ?_
  refine e_run 1 1 rfl ?_
  refine e_ifge 31 rfl rfl (by omega) (fun c1 => ?_) (fun c1 => ?_)
  rotate_left
  · omega
  refine e_run 1 32 rfl ?_
  refine e_iv0 (by decide) lkvJ6_56 rfl hA1 (Nat.le_of_ble_eq_true rfl) (c_bsInv hS) fun v h2 w2 g2 hP => ?_
  obtain ⟨rfl, rfl⟩ := hP
  refine e_run 1 36 rfl ?_
  refine e_is1 (by decide) lksJ6_52 rfl (Nat.le_of_ble_eq_true rfl) (c_bsWord (by omega)) fun v h3 w3 g3 hP => ?_
  obtain ⟨rfl, rfl⟩ := hP
  refine e_run 3 42 rfl ?_
  refine e_getf fwJ6_7 rfl hA1 rfl ?_
  refine e_icmplt 50 rfl rfl (by omega) (by omega) (fun c2 => ?_) (fun c2 => ?_)
  rotate_left
  · refine e_run 1 49 rfl ?_
    refine ex_ireturn rfl ⟨_, rfl, rfl⟩ ?_
    refine ⟨_, rfl, rfl, Or.inl ⟨rfl, fun i hi => ?_⟩⟩
    unfold bsb
    rw [hz (i / 64) (by omega), Nat.zero_testBit]
  refine e_run 1 51 rfl ?_
  refine e_getf fwJ6_11 rfl hA1 rfl ?_
  refine e_run 1 55 rfl ?_
  refine e_lald rfl hB (by omega) (by omega) (by omega) ?_
  refine e_ldc2 (-1) kcJ6_165 rfl rfl ?_
  refine e_run 1 60 rfl ?_
  refine e_lshl2 rfl hf ?_
  have hk : fr % 64 < 64 := Nat.mod_lt _ (by decide)
  have hp : 2 ^ (fr % 64) ≤ 18446744073709551616 := Nat.le_of_lt (Nat.pow_lt_pow_right (a := 2) (n := 64) (by decide) hk)
  have hp0 : 0 < 2 ^ (fr % 64) := Nat.two_pow_pos _
  refine ex_Gs (b := ((2 ^ 64 - 2 ^ (fr % 64) : Nat) : Int)) ?_ ?_
  · apply Int64.toBitVec_inj.mp
    show BitVec.ofInt 64 _ = BitVec.ofInt 64 _
    apply BitVec.eq_of_toNat_eq
    rw [BitVec.toNat_ofInt, BitVec.toNat_ofInt]
    congr 1
    rw [show (-1 : Int) * 2 ^ (fr % 64) = -((2 ^ (fr % 64) : Nat) : Int) by rw [Int.natCast_pow]; show (-1 : Int) * 2 ^ (fr % 64) = -((2 : Int) ^ (fr % 64)); omega]
    generalize 2 ^ (fr % 64) = y at hp hp0
    show (-(y : Int)) % 18446744073709551616 = ((18446744073709551616 - y : Nat) : Int) % 18446744073709551616
    omega
  refine e_landN rfl ?_
  refine e_run 1 63 rfl ?_
  rw [Int.toNat_natCast]
  refine next_loop hA1 hB n2 n3 hW hz (w - fr / 64 - 1) (fr / 64) (W (fr / 64) &&& (2 ^ 64 - 2 ^ (fr % 64))) _ (by omega) (Nat.lt_of_le_of_lt Nat.and_le_left (hW _)) (fun j hj => ?_) (fun i hi hi2 => by omega) (by omega) ⟨rfl, rfl, rfl, rfl, trivial⟩
  rw [Nat.testBit_and]
  unfold bsb
  rw [show (64 * (fr / 64) + j) / 64 = fr / 64 by omega, show (64 * (fr / 64) + j) % 64 = j by omega]
  congr 1
  rw [show 2 ^ 64 - 2 ^ (fr % 64) = 2 ^ 64 - ((2 ^ (fr % 64) - 1) + 1) by omega, Nat.testBit_two_pow_sub_succ (by omega), Nat.testBit_two_pow_sub_one]
  by_cases h1 : j < fr % 64
  · have : ¬ fr ≤ 64 * (fr / 64) + j := by omega
    simp [h1, this]
  · have : fr ≤ 64 * (fr / 64) + j := by omega
    simp [h1, this, hj]
theorem clr_loop {a b n : Nat} {tg : Tg} {s : Int} (t0 : tg.1 = 3) (hne : b ≠ a) (n3 : n ≤ 100) (w : Nat) : ∀ (W : Nat → Nat) (h : AH), w ≤ n → h.1 a = some (tg, oObj 18 [Rf b, J w, J s]) → h.1 b = some ((4, a), oArr 3 n (fun k => (W k : Int))) → (∀ k, w ≤ k → W k = 0) →
    Ex MJ6_clear_2 1 0 [(0, Rf a)] [] h (Ret fun v h1 => v = none ∧ h1.1 a = some (tg, oObj 18 [Rf b, J 0, J s]) ∧ h1.1 b = some ((4, a), oArr 3 n (fun _ => 0)) ∧ (∀ q, q ≠ a → q ≠ b → h1.1 q = h.1 q) ∧ h1.2 = h.2) := by
  induction w with
  | zero =>
    intro W h hn hA hB hz
    refine e_run 1 1 rfl ?_
    refine e_getf fwJ6_7 rfl hA rfl ?_
    refine e_ifle 27 rfl rfl (by omega) (fun c1 => ?_) (fun c1 => ?_)
    · refine ex_return rfl rfl ?_
      refine ⟨_, rfl, rfl, hA, ?_, fun _ _ _ => rfl, rfl⟩
      rw [hB]
      congr 3
      funext k
      rw [hz k (Nat.zero_le _)]
      rfl
    · omega
  | succ w ih =>
    intro W h hn hA hB hz
    refine e_run 1 1 rfl ?_
    refine e_getf fwJ6_7 rfl hA rfl ?_
    refine e_ifle 27 rfl rfl (by omega) (fun c1 => ?_) (fun c1 => ?_)
    · omega
    refine e_run 1 8 rfl ?_
    refine e_getf fwJ6_11 rfl hA rfl ?_
    refine e_run 2 13 rfl ?_
    refine e_getf fwJ6_7 rfl hA rfl ?_
    refine e_run 3 19 rfl ?_
    refine e_putf fwJ6_7 rfl hA (by first | decide | omega) (Nat.le_of_ble_eq_true rfl) (pn_int _) ?_
    refine e_run 1 23 rfl ?_
    refine e_last rfl ((hset_ne hne).trans hB) (show (4 : Nat) ≠ 0 by decide) (by omega) (by omega) (by omega) ?_
    refine e_run 1 0 rfl ?_
    have hB2 : (hset (hset h a (tg, oObj 18 ([Rf b, J ((w + 1 : Nat) : Int), J s].set 1 (J (((w + 1 : Nat) : Int) - 1))))) b ((4, a), oArr 3 n (va_up (fun k => (W k : Int)) (((w + 1 : Nat) : Int) - 1).toNat (((0 : Fin 2).val : Nat) : Int)))).1 b = some ((4, a), oArr 3 n (fun k => (((fun j => if j = w then 0 else W j) k : Nat) : Int))) := by
      rw [hset_at]
      congr 3
      funext k
      show (if k = (((w + 1 : Nat) : Int) - 1).toNat then _ else _) = _
      by_cases h1 : k = w
      · rw [if_pos (by omega)]
        show (0 : Int) = (((if k = w then 0 else W k) : Nat) : Int)
        rw [if_pos h1]
        rfl
      · rw [if_neg (by omega)]
        show (W k : Int) = (((if k = w then 0 else W k) : Nat) : Int)
        rw [if_neg h1]
    refine ex_post (ih (fun j => if j = w then 0 else W j) _ (by omega) ?_ hB2 (fun k hk => ?_)) fun o h1 w1 g1 hq => ?_
    · rw [hset_ne (Ne.symm hne), hset_at]
      show some (tg, oObj 18 [Rf b, J (((w + 1 : Nat) : Int) - 1), J s]) = _
      rw [show ((w + 1 : Nat) : Int) - 1 = (w : Int) by omega]
    · show (if k = w then 0 else W k) = 0
      split
      · rfl
      · exact hz k (by omega)
    · obtain ⟨v, rfl, rfl, k1, k2, k3, k4⟩ := hq
      exact ⟨_, rfl, rfl, k1, k2, fun q q1 q2 => (k3 q q1 q2).trans ((hset_ne q2).trans (hset_ne q1)), k4⟩
/-- bits.clear() -/
theorem c_bsClear {h : AH} {a : Nat} {W : Nat → Nat} {w n : Nat} (hA : BS h a W w n) : Call MJ6_clear_2 1 [Rf a] h (Ret fun v h1 => v = none ∧ BS h1 a (fun _ => 0) 0 n ∧ FrA a h h1 ∧ h1.2.1 = h.2.1 ∧ h1.2.2.1 = h.2.2.1) := by
  obtain ⟨tg, b, s, hA1, t0, hB, n1, n2, n3, hW, hz⟩ := hA
  have hne : b ≠ a := by
    intro e
    rw [e, hA1] at hB
    cases hB
  refine call_of okJ6_clear_2 (by decide +kernel) (Nat.le_of_ble_eq_true rfl) ?_
  refine ex_post (clr_loop t0 hne n3 w W h n2 hA1 hB hz) fun o h1 w1 g1 hq => ?_
  obtain ⟨v, rfl, rfl, k1, k2, k3, k4⟩ := hq
  refine ⟨_, rfl, rfl, ⟨tg, b, s, k1, t0, k2, n1, Nat.zero_le _, n3, fun _ => (show (0 : Nat) < 18446744073709551616 by decide), fun _ _ => rfl⟩, fun q x hq hqa hq4 => ?_, by rw [k4], by rw [k4]⟩
  rw [k3 q hqa ?_]
  · exact hq
  · intro e
    rw [e, hB] at hq
    obtain rfl := Option.some.inj hq
    exact hq4 rfl
