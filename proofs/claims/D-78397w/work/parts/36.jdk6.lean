/-! JDK, sixth: BitSet (words as natural numbers; assertions are off) -/
def BS (h : AH) (a : Nat) (W : Nat → Nat) (w n : Nat) : Prop := ∃ (tg : Tg) (b : Nat) (s : Int), h.1 a = some (tg, oObj 18 [Rf b, J w, J s]) ∧ tg.1 = 3 ∧ h.1 b = some ((4, a), oArr 3 n (fun k => (W k : Int))) ∧ 1 ≤ n ∧ w ≤ n ∧ n ≤ 100 ∧ (∀ k, W k < 18446744073709551616) ∧ (∀ k, w ≤ k → W k = 0)
theorem BS.kp {h h1 : AH} {a q : Nat} {W : Nat → Nat} {w n : Nat} (hA : BS h a W w n) (k : FrA q h h1) (hq : a ≠ q) (hq2 : ∃ x, h.1 q = some x ∧ x.1.1 = 3) : BS h1 a W w n := by
  obtain ⟨tg, b, s, hA1, t0, hB, r⟩ := hA
  refine ⟨tg, b, s, k _ _ hA1 hq ?_, t0, k _ _ hB ?_ ?_, r⟩
  · intro e
    rw [show tg = (4, q) from e] at t0
    exact absurd (show (4 : Nat) = 3 from t0) (by decide)
  · intro e
    rw [e] at hB
    obtain ⟨x, hx, hx3⟩ := hq2
    cases hx.symm.trans hB
    exact absurd (show (4 : Nat) = 3 from hx3) (by decide)
  · intro e
    exact hq (congrArg Prod.snd e)
theorem and_pow (a k : Nat) : a &&& 2 ^ k = if a.testBit k then 2 ^ k else 0 := by
  apply Nat.eq_of_testBit_eq
  intro j
  rw [Nat.testBit_and, Nat.testBit_two_pow]
  by_cases hj : k = j
  · subst hj
    cases h : a.testBit k <;> simp
  · cases h : a.testBit k <;> simp [hj]
theorem c_bsWord {i : Nat} {h : AH} (hi : i < 4000) : Call MJ6_wordIndex 1 [J i] h (Ret fun v h1 => v = some (J ((i / 64 : Nat) : Int)) ∧ h1 = h) := by
  refine call_of okJ6_wordIndex (by decide +kernel) (Nat.le_of_ble_eq_true rfl) ?_
  refine e_run 2 3 rfl ?_
  refine e_ishr (k := 6) rfl (by omega) (by omega) ?_
  refine ex_ireturn rfl ⟨_, rfl, rfl⟩ ?_
  exact ⟨_, rfl, by congr 2, rfl⟩
theorem c_bsInv {h : AH} {a : Nat} (hS : h.2.2.2 2 = J 1) : Call MJ6_checkInvariants 1 [Rf a] h (Ret fun v h1 => v = none ∧ h1 = h) := by
  refine call_of okJ6_checkInvariants (by decide +kernel) (Nat.le_of_ble_eq_true rfl) ?_
  refine e_gets (k := 2) rfl hS gsJ6_3 rfl ?_
  refine e_ifne 37 rfl rfl (by omega) (fun c1 => ?_) (fun c1 => ?_)
  rotate_left
  · omega
  refine e_gets (k := 2) rfl hS gsJ6_3 rfl ?_
  refine e_ifne 70 rfl rfl (by omega) (fun c2 => ?_) (fun c2 => ?_)
  rotate_left
  · omega
  refine e_gets (k := 2) rfl hS gsJ6_3 rfl ?_
  refine e_ifne 110 rfl rfl (by omega) (fun c3 => ?_) (fun c3 => ?_)
  rotate_left
  · omega
  refine ex_return rfl rfl ?_
  exact ⟨_, rfl, rfl, rfl⟩
theorem c_bsGet {h : AH} {a i : Nat} {W : Nat → Nat} {w n : Nat} (hA : BS h a W w n) (hi : i < 2048) (hS : h.2.2.2 2 = J 1) : Call MJ6_get 2 [Rf a, J i] h (Ret fun v h1 => v = some (J (if (W (i / 64)).testBit (i % 64) then 1 else 0)) ∧ h1 = h) := by
  obtain ⟨tg, b, s, hA1, t0, hB, n1, n2, n3, hW, hz⟩ := hA
  refine call_of okJ6_get (by decide +kernel) (Nat.le_of_ble_eq_true rfl) ?_
  refine e_run 1 1 rfl ?_
  refine e_ifge 31 rfl rfl (by omega) (fun c1 => ?_) (fun c1 => ?_)
  rotate_left
  · omega
  refine e_run 1 32 rfl ?_
  refine e_iv0 (by decide) lkvJ6_56 rfl hA1 (Nat.le_of_ble_eq_true rfl) (c_bsInv hS) fun v h2 w2 g2 hP => ?_
  obtain ⟨rfl, rfl⟩ := hP
  refine e_run 1 36 rfl ?_
  refine e_is1 (by decide) lksJ6_52 rfl (Nat.le_of_ble_eq_true rfl) (c_bsWord (by omega)) fun v h3 w3 g3 hP => ?_
  obtain ⟨rfl, rfl⟩ := hP
  refine e_run 3 42 rfl ?_
  refine e_getf fwJ6_7 rfl hA1 rfl ?_
  refine e_icmpge 67 rfl rfl (by omega) (by omega) (fun c2 => ?_) (fun c2 => ?_)
  · refine e_run 1 68 rfl ?_
    refine ex_ireturn rfl ⟨_, rfl, rfl⟩ ?_
    refine ⟨_, rfl, ?_, rfl⟩
    rw [hz (i / 64) (by omega), Nat.zero_testBit]
    rfl
  refine e_run 1 49 rfl ?_
  refine e_getf fwJ6_11 rfl hA1 rfl ?_
  refine e_run 1 53 rfl ?_
  refine e_lald rfl hB (by omega) (by omega) (by omega) ?_
  refine e_run 2 56 rfl ?_
  refine e_lshl2 rfl hi ?_
  rw [Int.toNat_natCast, show (((1 : Fin 2).val : Nat) : Int) * 2 ^ (i % 64) = ((2 ^ (i % 64) : Nat) : Int) by rw [Int.natCast_pow]; show (1 : Int) * _ = _; rw [Int.one_mul]; rfl]
  refine e_landN rfl ?_
  have hlt : W (i / 64) &&& 2 ^ (i % 64) < 18446744073709551616 := Nat.lt_of_le_of_lt Nat.and_le_left (hW _)
  have hbit : (W (i / 64) &&& 2 ^ (i % 64) = 0) ↔ (W (i / 64)).testBit (i % 64) = false := by
    rw [and_pow]
    cases (W (i / 64)).testBit (i % 64)
    · simp
    · simp
  refine ex_Gn ?_
  refine e_run 1 59 rfl ?_
  refine e_lcmpeq 67 rfl rfl rfl (sg_I hlt) (by decide) (fun c3 => ?_) (fun c3 => ?_)
  · have c4 := hbit.mp ((sg_0 hlt).mp c3)
    refine e_run 1 68 rfl ?_
    refine ex_ireturn rfl ⟨_, rfl, rfl⟩ ?_
    refine ⟨_, rfl, ?_, rfl⟩
    rw [c4]
    rfl
  · have c4 : (W (i / 64)).testBit (i % 64) = true := by
      cases e : (W (i / 64)).testBit (i % 64)
      · exact absurd ((sg_0 hlt).mpr (hbit.mpr e)) c3
      · rfl
    refine e_run 2 68 rfl ?_
    refine ex_ireturn rfl ⟨_, rfl, rfl⟩ ?_
    refine ⟨_, rfl, ?_, rfl⟩
    rw [c4]
    rfl
theorem c_copyOfL {a n : Nat} {len : Int} {tg : Tg} {W : Nat → Nat} {h : AH} (ha : h.1 a = some (tg, oArr 3 n (fun k => (W k : Int)))) (hW : ∀ k, n ≤ k → W k = 0) (hn : (n : Int) < len) (hl : len ≤ 1000) (tg' : Tg) (htg : tg'.1 ≠ 0) :
    Call MJ14_copyOf 3 [Rf a, J len] h (Ret fun v h1 => v = some (Rf h.2.1) ∧ h1 = hnew h (tg', oArr 3 len.toNat (fun k => (W k : Int))) len.toNat) := by
  refine call_wf fun w => ?_
  refine call_of okJ14_copyOf (by decide +kernel) (Nat.le_of_ble_eq_true rfl) ?_
  refine e_run 2 2 rfl ?_
  refine e_alen rfl ha (by decide) (by omega) ?_
  refine e_icmpne 14 rfl rfl (by omega) (by omega) (fun c1 => ?_) (fun c1 => ?_)
  rotate_left
  · omega
  refine e_run 1 15 rfl ?_
  refine e_newa tg' (t := 3) rfl rfl (by decide) q344 rfl (by omega) (by omega) ?_
  have ha1 : (hnew h (tg', oArr 3 len.toNat (fun _ => 0)) len.toNat).1 a = some (tg, oArr 3 n (fun k => (W k : Int))) := hnew_old w ha
  refine e_run 6 23 rfl ?_
  refine e_alen rfl ha1 (by decide) (by omega) ?_
  refine e_run 1 25 rfl ?_
  refine e_is2 (by decide) lksJ14_304 rfl (Nat.le_of_ble_eq_true rfl) (c_min (by omega) (by omega)) fun v h2 w2 g2 hP => ?_
  obtain ⟨rfl, rfl⟩ := hP
  rw [show min (n : Int) len = n by omega]
  refine e_copyP (t := 3) (sp := 0) (dp := 0) lkaJ14_150 rfl ha1 hnew_at htg (by decide) ?_ (by omega) (by omega) (by omega) (by omega) (by omega) (by omega) (by omega) (Nat.le_of_ble_eq_true rfl) ?_
  · intro ty hty i hi
    cases hty
    rfl
  rw [hset_hnew]
  refine e_run 1 32 rfl ?_
  refine ex_areturn rfl ⟨_, rfl, by first | exact Or.inl ⟨_, rfl⟩ | exact Or.inr ⟨_, rfl⟩⟩ ?_
  refine ⟨_, rfl, rfl, ?_⟩
  congr 3
  funext i
  show (if (0 : Int).toNat ≤ i ∧ i < (0 : Int).toNat + (n : Int).toNat then ((W ((0 : Int).toNat + (i - (0 : Int).toNat)) : Nat) : Int) else 0) = _
  by_cases hi : i < n
  · rw [if_pos (by omega)]
    congr 2
    omega
  · rw [if_neg (by omega), hW i (by omega)]
    rfl
theorem c_bsInitW {h : AH} {a : Nat} {tg : Tg} {s : Int} (hA : h.1 a = some (tg, oObj 18 [Rn, J 0, J s])) (t0 : tg.1 = 3) : Call MJ6_initWords 2 [Rf a, J 64] h (Ret fun v h1 => v = none ∧ BS h1 a (fun _ => 0) 0 1 ∧ h1.1 a = some (tg, oObj 18 [Rf h.2.1, J 0, J s]) ∧ FrA a h h1 ∧ h1.2.1 = h.2.1 + 1 ∧ h1.2.2.1 = h.2.2.1 + 1) := by
  refine call_wf fun w => ?_
  have hne := Nat.ne_of_lt (w _ _ hA)
  refine call_of okJ6_initWords (by decide +kernel) (Nat.le_of_ble_eq_true rfl) ?_
  refine e_run 4 4 rfl ?_
  refine e_is1 (by decide) lksJ6_52 rfl (Nat.le_of_ble_eq_true rfl) (c_bsWord (i := 63) (by omega)) fun v h3 w3 g3 hP => ?_
  obtain ⟨rfl, rfl⟩ := hP
  refine e_run 2 9 rfl ?_
  refine e_newa (4, a) (t := 3) (n := 1) rfl rfl (by decide) q344 rfl (by omega) (by omega) ?_
  have hA2 := hnew_old (x := ((4, a), oArr 3 (1 : Int).toNat (fun _ => 0))) (n := (1 : Int).toNat) w hA
  refine e_putf fwJ6_11 rfl hA2 (by first | decide | omega) (Nat.le_of_ble_eq_true rfl) (pn_arr _ _) ?_
  refine ex_return rfl rfl ?_
  refine ⟨_, rfl, rfl, ⟨tg, _, s, hset_at, t0, (hset_ne (Ne.symm hne)).trans hnew_at, by omega, by omega, by omega, fun _ => (show (0 : Nat) < 18446744073709551616 by decide), fun _ _ => rfl⟩, hset_at, fun q x hq hqa _ => (hset_ne hqa).trans (hnew_old w hq), rfl, rfl⟩
/-- new BitSet() -/
theorem c_bsInit {h : AH} {a : Nat} {tg : Tg} {s : Int} (hA : h.1 a = some (tg, oObj 18 [Rn, J 0, J s])) (t0 : tg.1 = 3) : Call MJ6_init 3 [Rf a] h (Ret fun v h1 => v = none ∧ BS h1 a (fun _ => 0) 0 1 ∧ FrA a h h1 ∧ h1.2.1 = h.2.1 + 1 ∧ h1.2.2.1 = h.2.2.1 + 1) := by
  refine call_wf fun w => ?_
  refine call_of okJ6_init (by decide +kernel) (Nat.le_of_ble_eq_true rfl) ?_
  refine e_run 1 1 rfl ?_
  refine e_objInit lkoJ6_21 q190 q191 rfl (Nat.le_of_ble_eq_true rfl) ?_
  refine e_run 2 6 rfl ?_
  refine e_putf fwJ6_7 rfl hA (by first | decide | omega) (Nat.le_of_ble_eq_true rfl) (pn_int _) ?_
  refine e_run 2 11 rfl ?_
  refine e_putf fwJ6_24 rfl hset_at (by first | decide | omega) (Nat.le_of_ble_eq_true rfl) ((pn_bool (Or.inl rfl))) ?_
  refine e_run 2 17 rfl ?_
  refine e_iv1 (by decide) lkvJ6_27 rfl hset_at (Nat.le_of_ble_eq_true rfl) (c_bsInitW hset_at t0) fun v h2 w2 g2 hP => ?_
  obtain ⟨rfl, hB, hA2, hF, hs1, hs2⟩ := hP
  obtain ⟨tg', b', s', hA3, t3, hB3, r⟩ := hB
  cases Option.some.inj (hA2.symm.trans hA3)
  refine e_run 2 22 rfl ?_
  refine e_putf fwJ6_24 rfl hA2 (by first | decide | omega) (Nat.le_of_ble_eq_true rfl) ((pn_bool (Or.inl rfl))) ?_
  refine ex_return rfl rfl ?_
  refine ⟨_, rfl, rfl, ⟨tg, _, 0, hset_at, t0, (hset_ne ?_).trans hB3, r⟩, fun q x hq hqa hq4 => (hset_ne hqa).trans (hF q x ((hset_ne hqa).trans ((hset_ne hqa).trans hq)) hqa hq4), hs1, hs2⟩
  exact Ne.symm (Nat.ne_of_lt (w _ _ hA))
/-- what a word's want brings -/
def bcap (n k : Nat) : Nat := if n < k then max (2 * n) k else n
theorem c_bsEnsure {h : AH} {a k : Nat} {W : Nat → Nat} {w n : Nat} (hA : BS h a W w n) (hk : 1 ≤ k ∧ k ≤ 32) : Call MJ6_ensureCapacity 4 [Rf a, J k] h (Ret fun v h1 => v = none ∧ BS h1 a W w (bcap n k) ∧ FrA a h h1 ∧ h1.2.1 = h.2.1 + (if n < k then 1 else 0) ∧ h1.2.2.1 = h.2.2.1 + (if n < k then bcap n k else 0)) := by
  refine call_wf fun wf => ?_
  obtain ⟨tg, b, s, hA1, t0, hB, n1, n2, n3, hW, hz⟩ := id hA
  have hal := wf _ _ hA1
  refine call_of okJ6_ensureCapacity (by decide +kernel) (Nat.le_of_ble_eq_true rfl) ?_
  refine e_run 1 1 rfl ?_
  refine e_getf fwJ6_11 rfl hA1 rfl ?_
  refine e_alen rfl hB (by decide) (by omega) ?_
  refine e_run 1 6 rfl ?_
  refine e_icmpge 38 rfl rfl (by omega) (by omega) (fun c1 => ?_) (fun c1 => ?_)
  · refine ex_return rfl rfl ?_
    have e : bcap n k = n := if_neg (by omega)
    rw [e, if_neg (by omega), if_neg (by omega)]
    exact ⟨_, rfl, rfl, hA, FrA.rf a h, rfl, rfl⟩
  have e : bcap n k = max (2 * n) k := if_pos (by omega)
  refine e_run 2 11 rfl ?_
  refine e_getf fwJ6_11 rfl hA1 rfl ?_
  refine e_alen rfl hB (by decide) (by omega) ?_
  refine e_run 2 17 rfl ?_
  refine e_is2 (by decide) lksJ6_133 rfl (Nat.le_of_ble_eq_true rfl) (c_max (by omega) (by omega)) fun v h2 w2 g2 hP => ?_
  obtain ⟨rfl, rfl⟩ := hP
  rw [show max (2 * (n : Int)) k = (bcap n k : Int) by rw [e]; omega]
  refine e_run 3 23 rfl ?_
  refine e_getf fwJ6_11 rfl hA1 rfl ?_
  refine e_run 1 27 rfl ?_
  refine e_is2 (by decide) lksJ6_59 rfl (Nat.le_of_ble_eq_true rfl) (c_copyOfL hB (fun j hj => hz j (by omega)) (by rw [e]; omega) (by rw [e]; omega) (4, a) (show (4 : Nat) ≠ 0 by decide)) fun v h3 w3 g3 hP => ?_
  obtain ⟨rfl, rfl⟩ := hP
  have hA2 := hnew_old (x := ((4, a), oArr 3 (bcap n k : Int).toNat (fun k => (W k : Int)))) (n := (bcap n k : Int).toNat) wf hA1
  refine e_putf fwJ6_11 rfl hA2 (by first | decide | omega) (Nat.le_of_ble_eq_true rfl) (pn_arr _ _) ?_
  refine e_run 2 35 rfl ?_
  refine e_putf fwJ6_24 rfl hset_at (by first | decide | omega) (Nat.le_of_ble_eq_true rfl) ((pn_bool (Or.inl rfl))) ?_
  refine ex_return rfl rfl ?_
  rw [hset_hset, if_pos (by omega), if_pos (by omega)]
  refine ⟨_, rfl, rfl, ⟨tg, _, 0, hset_at, t0, (hset_ne (by omega)).trans hnew_at, by omega, by omega, by omega, hW, hz⟩, fun q x hq hqa _ => (hset_ne hqa).trans (hnew_old wf hq), rfl, rfl⟩
theorem c_bsExpand {h : AH} {a k : Nat} {W : Nat → Nat} {w n : Nat} (hA : BS h a W w n) (hk : k < 32) : Call MJ6_expandTo 5 [Rf a, J k] h (Ret fun v h1 => v = none ∧ BS h1 a W (max w (k + 1)) (bcap n (k + 1)) ∧ FrA a h h1 ∧ h1.2.1 = h.2.1 + (if n < k + 1 then 1 else 0) ∧ h1.2.2.1 = h.2.2.1 + (if n < k + 1 then bcap n (k + 1) else 0)) := by
  obtain ⟨tg, b, s, hA1, t0, hB, n1, n2, n3, hW, hz⟩ := id hA
  refine call_of okJ6_expandTo (by decide +kernel) (Nat.le_of_ble_eq_true rfl) ?_
  refine e_run 5 5 rfl ?_
  refine e_getf fwJ6_7 rfl hA1 rfl ?_
  refine e_run 1 9 rfl ?_
  refine e_icmpge 22 rfl rfl (by omega) (by omega) (fun c1 => ?_) (fun c1 => ?_)
  · refine ex_return rfl rfl ?_
    have e : bcap n (k + 1) = n := if_neg (by omega)
    rw [e, if_neg (by omega), if_neg (by omega), show max w (k + 1) = w by omega]
    exact ⟨_, rfl, rfl, hA, FrA.rf a h, rfl, rfl⟩
  refine e_run 2 14 rfl ?_
  refine e_iv1 (by decide) lkvJ6_139 rfl hA1 (Nat.le_of_ble_eq_true rfl) (c_bsEnsure (k := k + 1) hA (by omega)) fun v h2 w2 g2 hP => ?_
  obtain ⟨rfl, hB2, hF, hs1, hs2⟩ := hP
  obtain ⟨tg2, b2, s2, hA3, t3, hB3, m1, m2, m3, hW3, hz3⟩ := hB2
  have hb2 : b2 ≠ a := by
    intro e
    rw [e, hA3] at hB3
    cases hB3
  have hbc : k + 1 ≤ bcap n (k + 1) := by
    unfold bcap
    split <;> omega
  refine e_run 2 19 rfl ?_
  refine e_putf fwJ6_7 rfl hA3 (by first | decide | omega) (Nat.le_of_ble_eq_true rfl) (pn_int _) ?_
  refine ex_return rfl rfl ?_
  refine ⟨_, rfl, rfl, ⟨tg2, b2, s2, ?_, t3, (hset_ne hb2).trans hB3, m1, by omega, m3, hW3, fun j hj => hz j (by omega)⟩, fun q x hq hqa hq4 => (hset_ne hqa).trans (hF q x hq hqa hq4), hs1, hs2⟩
  rw [show max w (k + 1) = k + 1 by omega]
  exact hset_at
/-- bits.set(i) -/
theorem c_bsSet {h : AH} {a i : Nat} {W : Nat → Nat} {w n : Nat} (hA : BS h a W w n) (hi : i < 2048) (hS : h.2.2.2 2 = J 1) : Call MJ6_set_2 6 [Rf a, J i] h (Ret fun v h1 => v = none ∧ BS h1 a (fun k => if k = i / 64 then W k ||| 2 ^ (i % 64) else W k) (max w (i / 64 + 1)) (bcap n (i / 64 + 1)) ∧ FrA a h h1 ∧ h1.2.1 = h.2.1 + (if n < i / 64 + 1 then 1 else 0) ∧ h1.2.2.1 = h.2.2.1 + (if n < i / 64 + 1 then bcap n (i / 64 + 1) else 0)) := by
  obtain ⟨tg, b, s, hA1, -⟩ := id hA
  refine call_of okJ6_set_2 (by decide +kernel) (Nat.le_of_ble_eq_true rfl) ?_
  refine e_run 1 1 rfl ?_
  refine e_ifge 31 rfl rfl (by omega) (fun c1 => ?_) (fun c1 => ?_)
  rotate_left
  · omega
  refine e_run 1 32 rfl ?_
  refine e_is1 (by decide) lksJ6_52 rfl (Nat.le_of_ble_eq_true rfl) (c_bsWord (by omega)) fun v h3 w3 g3 hP => ?_
  obtain ⟨rfl, rfl⟩ := hP
  refine e_run 3 38 rfl ?_
  refine e_iv1 (by decide) lkvJ6_155 rfl hA1 (Nat.le_of_ble_eq_true rfl) (c_bsExpand (k := i / 64) hA (by omega)) fun v h2 w2 g2 hP => ?_
  obtain ⟨rfl, hB2, hF, hs1, hs2⟩ := hP
  obtain ⟨tg2, b2, s2, hA3, t3, hB3, m1, m2, m3, hW3, hz3⟩ := hB2
  have hb2 : b2 ≠ a := by
    intro e
    rw [e, hA3] at hB3
    cases hB3
  have hbc : i / 64 + 1 ≤ bcap n (i / 64 + 1) := by
    unfold bcap
    split <;> omega
  refine e_run 1 42 rfl ?_
  refine e_getf fwJ6_11 rfl hA3 rfl ?_
  refine e_run 2 47 rfl ?_
  refine e_lald rfl hB3 (by omega) (by omega) (by omega) ?_
  refine e_run 2 50 rfl ?_
  refine e_lshl2 rfl hi ?_
  rw [Int.toNat_natCast, show (((1 : Fin 2).val : Nat) : Int) * 2 ^ (i % 64) = ((2 ^ (i % 64) : Nat) : Int) by rw [Int.natCast_pow]; show (1 : Int) * _ = _; rw [Int.one_mul]; rfl]
  refine e_lorN rfl ?_
  refine e_last rfl hB3 (show (4 : Nat) ≠ 0 by decide) (by omega) (by omega) (by omega) ?_
  have hA4 := (hset_ne (x := ((4, a), oArr 3 (bcap n (i / 64 + 1)) (va_up (fun k => (W k : Int)) ((i / 64 : Nat) : Int).toNat ((W (i / 64) ||| 2 ^ (i % 64) : Nat) : Int)))) (Ne.symm hb2)).trans hA3
  refine e_run 1 54 rfl ?_
  refine e_iv0 (by decide) lkvJ6_56 rfl hA4 (Nat.le_of_ble_eq_true rfl) (c_bsInv (g2.2.2 ▸ hS)) fun v h4 w4 g4 hP => ?_
  obtain ⟨rfl, rfl⟩ := hP
  refine ex_return rfl rfl ?_
  refine ⟨_, rfl, rfl, ⟨tg2, b2, s2, hA4, t3, ?_, m1, m2, m3, fun k => ?_, fun k hk => ?_⟩, fun q x hq hqa hq4 => ?_, hs1, hs2⟩
  · rw [hset_at]
    congr 3
    funext k
    show (if k = ((i / 64 : Nat) : Int).toNat then ((W (i / 64) ||| 2 ^ (i % 64) : Nat) : Int) else (W k : Int)) = (((if k = i / 64 then W k ||| 2 ^ (i % 64) else W k) : Nat) : Int)
    rw [Int.toNat_natCast]
    split
    · rename_i e
      rw [e]
    · rfl
  · show (if k = i / 64 then W k ||| 2 ^ (i % 64) else W k) < 2 ^ 64
    split
    · exact Nat.or_lt_two_pow (hW3 k) (Nat.pow_lt_pow_right (by decide) (Nat.mod_lt _ (by decide)))
    · exact hW3 k
  · show (if k = i / 64 then W k ||| 2 ^ (i % 64) else W k) = 0
    rw [if_neg (by omega)]
    exact hz3 k hk
  · refine (hset_ne ?_).trans (hF q x hq hqa hq4)
    intro e
    have h9 := hF q x hq hqa hq4
    rw [e, hB3] at h9
    obtain rfl := Option.some.inj h9
    exact hq4 rfl
