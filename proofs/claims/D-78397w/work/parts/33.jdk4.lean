/-! JDK, fourth: ArrayDeque of at most 8 elements (17 places; it never grows) -/
def DQ (h : AH) (a : Nat) (xs : List Nat) : Prop := ∃ (tg : Tg) (b hd tl : Nat) (f : Nat → Option Nat), h.1 a = some (tg, oObj 16 [Rf b, J hd, J tl]) ∧ tg.1 = 3 ∧ h.1 b = some ((4, a), oRef 4 17 f) ∧ hd < 17 ∧ tl < 17 ∧ xs.length ≤ 8 ∧ (hd + xs.length = tl ∨ hd + xs.length = tl + 17) ∧ ∀ j, j < 17 → f j = xs[if hd ≤ j then j - hd else j + 17 - hd]?
theorem DQ.kp {h h1 : AH} {a q : Nat} {xs : List Nat} (hA : DQ h a xs) (k : FrA q h h1) (hq : a ≠ q) (hq2 : ∃ x, h.1 q = some x ∧ x.1.1 = 3) : DQ h1 a xs := by
  obtain ⟨tg, b, hd, tl, f, hA1, t0, hB, r⟩ := hA
  refine ⟨tg, b, hd, tl, f, k _ _ hA1 hq ?_, t0, k _ _ hB ?_ ?_, r⟩
  · intro e
    rw [show tg = (4, q) from e] at t0
    exact absurd (show (4 : Nat) = 3 from t0) (by decide)
  · intro e
    rw [e] at hB
    obtain ⟨x, hx, hx3⟩ := hq2
    cases hx.symm.trans hB
    exact absurd (show (4 : Nat) = 3 from hx3) (by decide)
  · intro e
    exact hq (congrArg Prod.snd e)
theorem c_dqInit {h : AH} {a : Nat} {tg : Tg} (hA : h.1 a = some (tg, oObj 16 [Rn, J 0, J 0])) (t0 : tg.1 = 3) : Call MJ3_init 2 [Rf a] h (Ret fun v h1 => v = none ∧ DQ h1 a [] ∧ FrA a h h1 ∧ h1.2.1 = h.2.1 + 1 ∧ h1.2.2.1 = h.2.2.1 + 17) := by
  refine call_wf fun w => ?_
  have hne := Nat.ne_of_lt (w _ _ hA)
  refine call_of okJ3_init (by decide +kernel) (Nat.le_of_ble_eq_true rfl) ?_
  refine e_run 1 1 rfl ?_
  refine e_ii0 (by decide) lkiJ3_42 rfl (Nat.le_of_ble_eq_true rfl) c_initAC fun v h2 w2 g2 hP => ?_
  obtain ⟨rfl, rfl⟩ := hP
  refine e_run 2 7 rfl ?_
  refine e_anew (t := 4) (4, a) rfl clJ3_47 q289 rfl (by omega) (by omega) ?_
  have hA2 := hnew_old (x := ((4, a), oRef 4 (17 : Int).toNat (fun _ => none))) (n := (17 : Int).toNat) w hA
  refine e_putf fwJ3_3 rfl hA2 (by first | decide | omega) (Nat.le_of_ble_eq_true rfl) (pn_arr _ _) ?_
  refine ex_return rfl rfl ?_
  refine ⟨_, rfl, rfl, ⟨tg, _, 0, 0, fun _ => none, hset_at, t0, (hset_ne (Ne.symm hne)).trans hnew_at, by omega, by omega, Nat.zero_le _, Or.inl rfl, fun j hj => rfl⟩, fun q x hq hqa _ => (hset_ne hqa).trans (hnew_old w hq), rfl, rfl⟩
theorem c_dqSub {i j : Int} {h : AH} (hi : 0 ≤ i ∧ i < 17) (hj : 0 ≤ j ∧ j < 17) : Call MJ3_sub 1 [J i, J j, J 17] h (Ret fun v h1 => v = some (J (if i < j then i - j + 17 else i - j)) ∧ h1 = h) := by
  refine call_of okJ3_sub (by decide +kernel) (Nat.le_of_ble_eq_true rfl) ?_
  refine e_run 5 5 rfl ?_
  refine e_ifge 12 rfl rfl (by omega) (fun c1 => ?_) (fun c1 => ?_)
  · refine e_run 1 13 rfl ?_
    refine ex_ireturn rfl ⟨_, rfl, rfl⟩ ?_
    exact ⟨_, rfl, by rw [if_neg (by omega)], rfl⟩
  · refine e_run 5 13 rfl ?_
    refine ex_ireturn rfl ⟨_, rfl, rfl⟩ ?_
    exact ⟨_, rfl, by rw [if_pos (by omega)], rfl⟩
theorem c_dqSize {h : AH} {a : Nat} {xs : List Nat} (hA : DQ h a xs) : Call MJ3_size 2 [Rf a] h (Ret fun v h1 => v = some (J xs.length) ∧ h1 = h) := by
  obtain ⟨tg, b, hd, tl, f, hA1, t0, hB, c1, c2, c3, c4, hf⟩ := hA
  refine call_of okJ3_size (by decide +kernel) (Nat.le_of_ble_eq_true rfl) ?_
  refine e_run 1 1 rfl ?_
  refine e_getf fwJ3_20 rfl hA1 rfl ?_
  refine e_run 1 5 rfl ?_
  refine e_getf fwJ3_24 rfl hA1 rfl ?_
  refine e_run 1 9 rfl ?_
  refine e_getf fwJ3_3 rfl hA1 rfl ?_
  refine e_alen rfl hB (by decide) (by omega) ?_
  refine e_is3 (by decide) lksJ3_127 rfl (Nat.le_of_ble_eq_true rfl) (c_dqSub (by omega) (by omega)) fun v h2 w2 g2 hP => ?_
  obtain ⟨rfl, rfl⟩ := hP
  rw [show (if (tl : Int) < hd then (tl : Int) - hd + 17 else (tl : Int) - hd) = xs.length by split <;> omega]
  refine ex_ireturn rfl ⟨_, rfl, rfl⟩ ?_
  exact ⟨_, rfl, rfl, rfl⟩
theorem c_dqIsEmpty {h : AH} {a : Nat} {xs : List Nat} (hA : DQ h a xs) : Call MJ3_isEmpty 1 [Rf a] h (Ret fun v h1 => v = some (J (if xs = [] then 1 else 0)) ∧ h1 = h) := by
  obtain ⟨tg, b, hd, tl, f, hA1, t0, hB, c1, c2, c3, c4, hf⟩ := hA
  refine call_of okJ3_isEmpty (by decide +kernel) (Nat.le_of_ble_eq_true rfl) ?_
  refine e_run 1 1 rfl ?_
  refine e_getf fwJ3_24 rfl hA1 rfl ?_
  refine e_run 1 5 rfl ?_
  refine e_getf fwJ3_20 rfl hA1 rfl ?_
  refine e_icmpne 15 rfl rfl (by omega) (by omega) (fun c5 => ?_) (fun c5 => ?_)
  · refine e_run 1 16 rfl ?_
    refine ex_ireturn rfl ⟨_, rfl, rfl⟩ ?_
    refine ⟨_, rfl, ?_, rfl⟩
    rw [if_neg]
    intro e
    subst e
    exact c5 (by simp only [List.length_nil] at c4; omega)
  · refine e_run 2 16 rfl ?_
    refine ex_ireturn rfl ⟨_, rfl, rfl⟩ ?_
    refine ⟨_, rfl, ?_, rfl⟩
    rw [if_pos]
    exact List.length_eq_zero_iff.mp (by omega)
theorem c_dqAt {h : AH} {b i : Nat} {f : Nat → Option Nat} {tb : Tg} (hB : h.1 b = some (tb, oRef 4 17 f)) (hi : i < 17) : Call MJ3_elementAt 1 [Rf b, J i] h (Ret fun v h1 => v = some (Ro (f i)) ∧ h1 = h) := by
  refine call_of okJ3_elementAt (by decide +kernel) (Nat.le_of_ble_eq_true rfl) ?_
  refine e_run 2 2 rfl ?_
  refine e_aald rfl hB ⟨_, rfl, rfl⟩ (by omega) (by omega) (by omega) ?_
  refine ex_areturn rfl ⟨_, rfl, by first | exact Or.inl ⟨_, rfl⟩ | exact Or.inr ⟨_, rfl⟩⟩ ?_
  exact ⟨_, rfl, by rw [Int.toNat_natCast], rfl⟩
theorem c_dqInc {h : AH} {i : Nat} (hi : i < 17) : Call MJ3_inc 1 [J i, J 17] h (Ret fun v h1 => v = some (J ((if i = 16 then 0 else i + 1 : Nat) : Int)) ∧ h1 = h) := by
  refine call_of okJ3_inc (by decide +kernel) (Nat.le_of_ble_eq_true rfl) ?_
  refine e_run 3 5 rfl ?_
  refine e_icmplt 10 rfl rfl (by omega) (by omega) (fun c1 => ?_) (fun c1 => ?_)
  · refine e_run 1 11 rfl ?_
    refine ex_ireturn rfl ⟨_, rfl, rfl⟩ ?_
    exact ⟨_, rfl, by rw [if_neg (by omega)]; rfl, rfl⟩
  · refine e_run 3 11 rfl ?_
    refine ex_ireturn rfl ⟨_, rfl, rfl⟩ ?_
    exact ⟨_, rfl, by rw [if_pos (by omega)]; rfl, rfl⟩
theorem c_dqDec {h : AH} {i : Nat} (hi : i < 17) : Call MJ3_dec 1 [J i, J 17] h (Ret fun v h1 => v = some (J ((if i = 0 then 16 else i - 1 : Nat) : Int)) ∧ h1 = h) := by
  refine call_of okJ3_dec (by decide +kernel) (Nat.le_of_ble_eq_true rfl) ?_
  refine e_run 2 4 rfl ?_
  refine e_ifge 11 rfl rfl (by omega) (fun c1 => ?_) (fun c1 => ?_)
  · refine e_run 1 12 rfl ?_
    refine ex_ireturn rfl ⟨_, rfl, rfl⟩ ?_
    exact ⟨_, rfl, by rw [if_neg (by omega)]; congr 2; omega, rfl⟩
  · refine e_run 5 12 rfl ?_
    refine ex_ireturn rfl ⟨_, rfl, rfl⟩ ?_
    exact ⟨_, rfl, by rw [if_pos (by omega)]; rfl, rfl⟩
theorem c_dqAdd {h : AH} {a v : Nat} {xs : List Nat} (hA : DQ h a xs) (hc : xs.length < 8) (hv : El h v) : Call MJ3_addLast 2 [Rf a, Rf v] h (Ret fun r h1 => r = none ∧ DQ h1 a (xs ++ [v]) ∧ FrA a h h1 ∧ h1.2.1 = h.2.1 ∧ h1.2.2.1 = h.2.2.1) := by
  obtain ⟨tg, b, hd, tl, f, hA1, t0, hB, c1, c2, c3, c4, hf⟩ := hA
  obtain ⟨tv, ov, hv1, hv2, hv4⟩ := hv
  have hne : b ≠ a := by
    intro e
    rw [e, hA1] at hB
    cases hB
  refine call_of okJ3_addLast (by decide +kernel) (Nat.le_of_ble_eq_true rfl) ?_
  refine e_run 1 1 rfl ?_
  refine e_ifnonnull 12 rfl rfl (fun ac5 c5 => ?_) (fun c5 => ?_)
  rotate_left
  · cases c5
  refine e_run 1 13 rfl ?_
  refine e_getf fwJ3_3 rfl hA1 rfl ?_
  refine e_run 3 19 rfl ?_
  refine e_getf fwJ3_20 rfl hA1 rfl ?_
  refine e_run 1 23 rfl ?_
  refine e_aast (E := "java/lang/Object") rfl hB rfl hv1 hv2 (show (4 : Nat) ≠ 0 by decide) (by omega) (by omega) (by omega) ?_
  have hA2 := (hset_ne (x := ((4, a), oRef 4 17 (va_up f (tl : Int).toNat (some v)))) (Ne.symm hne)).trans hA1
  refine e_run 1 25 rfl ?_
  refine e_getf fwJ3_24 rfl hA2 rfl ?_
  refine e_run 2 30 rfl ?_
  refine e_getf fwJ3_20 rfl hA2 rfl ?_
  refine e_run 1 34 rfl ?_
  refine e_alen rfl hset_at (by decide) (by omega) ?_
  refine e_is2 (by decide) lksJ3_74 rfl (Nat.le_of_ble_eq_true rfl) (c_dqInc c2) fun r h2 w2 g2 hP => ?_
  obtain ⟨rfl, rfl⟩ := hP
  generalize hn : (if tl = 16 then 0 else tl + 1) = nt
  have hn2 : nt < 17 ∧ (nt = tl + 1 ∨ (tl = 16 ∧ nt = 0)) := by
    split at hn <;> omega
  refine e_run 1 39 rfl ?_
  refine e_putf fwJ3_20 rfl hA2 (by first | decide | omega) (Nat.le_of_ble_eq_true rfl) (pn_int _) ?_
  refine e_icmpne 50 rfl rfl (by omega) (by omega) (fun c6 => ?_) (fun c6 => ?_)
  · refine ex_return rfl rfl ?_
    refine ⟨_, rfl, rfl, ⟨tg, b, hd, nt, _, hset_at, t0, (hset_ne hne).trans hset_at, c1, hn2.1, by rw [List.length_append]; exact hc, by rw [List.length_append]; show hd + (xs.length + 1) = nt ∨ hd + (xs.length + 1) = nt + 17; omega, fun j hj => ?_⟩, fun q x hq hqa hq4 => ?_, rfl, rfl⟩
    · show (if j = (tl : Int).toNat then some v else f j) = _
      by_cases h1 : j = tl
      · rw [if_pos (by omega)]
        have : (if hd ≤ j then j - hd else j + 17 - hd) = xs.length := by split <;> omega
        rw [this]
        simp
      · rw [if_neg (by omega), hf j hj]
        by_cases h2 : (if hd ≤ j then j - hd else j + 17 - hd) < xs.length
        · rw [List.getElem?_append_left h2]
        · have : (if hd ≤ j then j - hd else j + 17 - hd) ≠ xs.length := by split <;> omega
          rw [List.getElem?_eq_none (by omega), List.getElem?_eq_none (by rw [List.length_append]; show xs.length + 1 ≤ _; omega)]
    · refine (hset_ne hqa).trans ((hset_ne ?_).trans hq)
      intro e
      rw [e, hB] at hq
      obtain rfl := Option.some.inj hq
      exact hq4 rfl
  · omega
theorem c_dqPollFirst {h : AH} {a v : Nat} {xs : List Nat} (hA : DQ h a (v :: xs)) : Call MJ3_pollFirst 2 [Rf a] h (Ret fun r h1 => r = some (Rf v) ∧ DQ h1 a xs ∧ FrA a h h1 ∧ h1.2.1 = h.2.1 ∧ h1.2.2.1 = h.2.2.1) := by
  obtain ⟨tg, b, hd, tl, f, hA1, t0, hB, c1, c2, c3, c4, hf⟩ := hA
  have hne : b ≠ a := by
    intro e
    rw [e, hA1] at hB
    cases hB
  have hfh : f hd = some v := by
    rw [hf hd c1, if_pos (Nat.le_refl _), Nat.sub_self]
    rfl
  refine call_of okJ3_pollFirst (by decide +kernel) (Nat.le_of_ble_eq_true rfl) ?_
  refine e_run 1 1 rfl ?_
  refine e_getf fwJ3_3 rfl hA1 rfl ?_
  refine e_run 3 7 rfl ?_
  refine e_getf fwJ3_24 rfl hA1 rfl ?_
  refine e_run 2 12 rfl ?_
  refine e_is2 (by decide) lksJ3_103 rfl (Nat.le_of_ble_eq_true rfl) (c_dqAt hB c1) fun r h2 w2 g2 hP => ?_
  obtain ⟨rfl, rfl⟩ := hP
  rw [hfh]
  refine e_run 2 17 rfl ?_
  refine e_ifnull 34 rfl rfl (fun c5 => ?_) (fun ac5 c5 => ?_)
  · cases c5
  refine e_run 3 23 rfl ?_
  refine e_aastN (E := "java/lang/Object") rfl hB rfl (show (4 : Nat) ≠ 0 by decide) (by omega) (by omega) (by omega) ?_
  have hA2 := (hset_ne (x := ((4, a), oRef 4 17 (va_up f (hd : Int).toNat none))) (Ne.symm hne)).trans hA1
  refine e_run 3 27 rfl ?_
  refine e_alen rfl hset_at (by decide) (by omega) ?_
  refine e_is2 (by decide) lksJ3_74 rfl (Nat.le_of_ble_eq_true rfl) (c_dqInc c1) fun r h2 w2 g2 hP => ?_
  obtain ⟨rfl, rfl⟩ := hP
  generalize hn : (if hd = 16 then 0 else hd + 1) = nt
  have hn2 : nt < 17 ∧ (nt = hd + 1 ∨ (hd = 16 ∧ nt = 0)) := by
    split at hn <;> omega
  refine e_putf fwJ3_24 rfl hA2 (by first | decide | omega) (Nat.le_of_ble_eq_true rfl) (pn_int _) ?_
  refine e_run 1 35 rfl ?_
  refine ex_areturn rfl ⟨_, rfl, by first | exact Or.inl ⟨_, rfl⟩ | exact Or.inr ⟨_, rfl⟩⟩ ?_
  rw [List.length_cons] at c3 c4
  refine ⟨_, rfl, rfl, ⟨tg, b, nt, tl, _, hset_at, t0, (hset_ne hne).trans hset_at, hn2.1, c2, by omega, by omega, fun j hj => ?_⟩, fun q x hq hqa hq4 => ?_, rfl, rfl⟩
  · show (if j = (hd : Int).toNat then none else f j) = _
    by_cases h1 : j = hd
    · rw [if_pos (by omega), List.getElem?_eq_none (by split <;> omega)]
    · rw [if_neg (by omega), hf j hj]
      have : (if hd ≤ j then j - hd else j + 17 - hd) = (if nt ≤ j then j - nt else j + 17 - nt) + 1 := by split <;> split <;> omega
      rw [this, List.getElem?_cons_succ]
  · refine (hset_ne hqa).trans ((hset_ne ?_).trans hq)
    intro e
    rw [e, hB] at hq
    obtain rfl := Option.some.inj hq
    exact hq4 rfl
theorem c_dqRemoveFirst {h : AH} {a v : Nat} {xs : List Nat} (hA : DQ h a (v :: xs)) : Call MJ3_removeFirst 3 [Rf a] h (Ret fun r h1 => r = some (Rf v) ∧ DQ h1 a xs ∧ FrA a h h1 ∧ h1.2.1 = h.2.1 ∧ h1.2.2.1 = h.2.2.1) := by
  obtain ⟨tg, b, hd, tl, f, hA1, -⟩ := id hA
  refine call_of okJ3_removeFirst (by decide +kernel) (Nat.le_of_ble_eq_true rfl) ?_
  refine e_run 1 1 rfl ?_
  refine e_iv0 (by decide) lkvJ3_93 rfl hA1 (Nat.le_of_ble_eq_true rfl) (c_dqPollFirst hA) fun r h2 w2 g2 hP => ?_
  obtain ⟨rfl, hP⟩ := hP
  refine e_run 2 6 rfl ?_
  refine e_ifnonnull 17 rfl rfl (fun ac5 c5 => ?_) (fun c5 => ?_)
  · refine e_run 1 18 rfl ?_
    refine ex_areturn rfl ⟨_, rfl, by first | exact Or.inl ⟨_, rfl⟩ | exact Or.inr ⟨_, rfl⟩⟩ ?_
    exact ⟨_, rfl, rfl, hP⟩
  · cases c5
theorem c_dqPollLast {h : AH} {a v : Nat} {xs : List Nat} (hA : DQ h a (xs ++ [v])) : Call MJ3_pollLast 2 [Rf a] h (Ret fun r h1 => r = some (Rf v) ∧ DQ h1 a xs ∧ FrA a h h1 ∧ h1.2.1 = h.2.1 ∧ h1.2.2.1 = h.2.2.1) := by
  obtain ⟨tg, b, hd, tl, f, hA1, t0, hB, c1, c2, c3, c4, hf⟩ := hA
  have hl : (xs ++ [v]).length = xs.length + 1 := by rw [List.length_append]; rfl
  rw [hl] at c3 c4
  have hne : b ≠ a := by
    intro e
    rw [e, hA1] at hB
    cases hB
  refine call_of okJ3_pollLast (by decide +kernel) (Nat.le_of_ble_eq_true rfl) ?_
  refine e_run 1 1 rfl ?_
  refine e_getf fwJ3_3 rfl hA1 rfl ?_
  refine e_run 3 7 rfl ?_
  refine e_getf fwJ3_20 rfl hA1 rfl ?_
  refine e_run 1 11 rfl ?_
  refine e_alen rfl hB (by decide) (by omega) ?_
  refine e_is2 (by decide) lksJ3_68 rfl (Nat.le_of_ble_eq_true rfl) (c_dqDec c2) fun r h2 w2 g2 hP => ?_
  obtain ⟨rfl, rfl⟩ := hP
  generalize hn : (if tl = 0 then 16 else tl - 1) = nt
  have hn2 : nt < 17 ∧ (nt + 1 = tl ∨ (nt = 16 ∧ tl = 0)) := by
    split at hn <;> omega
  have hfh : f nt = some v := by
    rw [hf nt hn2.1, show (if hd ≤ nt then nt - hd else nt + 17 - hd) = xs.length by split <;> omega]
    simp
  refine e_run 2 17 rfl ?_
  refine e_is2 (by decide) lksJ3_103 rfl (Nat.le_of_ble_eq_true rfl) (c_dqAt hB hn2.1) fun r h2 w2 g2 hP => ?_
  obtain ⟨rfl, rfl⟩ := hP
  rw [hfh]
  refine e_run 2 22 rfl ?_
  refine e_ifnull 34 rfl rfl (fun c5 => ?_) (fun ac5 c5 => ?_)
  · cases c5
  refine e_run 4 29 rfl ?_
  refine e_putf fwJ3_20 rfl hA1 (by first | decide | omega) (Nat.le_of_ble_eq_true rfl) (pn_int _) ?_
  refine e_run 1 33 rfl ?_
  refine e_aastN (E := "java/lang/Object") rfl ((hset_ne hne).trans hB) rfl (show (4 : Nat) ≠ 0 by decide) (by omega) (by omega) (by omega) ?_
  refine e_run 1 35 rfl ?_
  refine ex_areturn rfl ⟨_, rfl, by first | exact Or.inl ⟨_, rfl⟩ | exact Or.inr ⟨_, rfl⟩⟩ ?_
  refine ⟨_, rfl, rfl, ⟨tg, b, hd, nt, _, (hset_ne (Ne.symm hne)).trans hset_at, t0, hset_at, c1, hn2.1, by omega, by omega, fun j hj => ?_⟩, fun q x hq hqa hq4 => ?_, rfl, rfl⟩
  · show (if j = (nt : Int).toNat then none else f j) = _
    by_cases h1 : j = nt
    · rw [if_pos (by omega), List.getElem?_eq_none (by split <;> omega)]
    · rw [if_neg (by omega), hf j hj]
      by_cases h2 : (if hd ≤ j then j - hd else j + 17 - hd) < xs.length
      · rw [List.getElem?_append_left h2]
      · have : (if hd ≤ j then j - hd else j + 17 - hd) ≠ xs.length := by split <;> omega
        rw [List.getElem?_eq_none (by omega), List.getElem?_eq_none (by omega)]
  · refine (hset_ne ?_).trans ((hset_ne hqa).trans hq)
    intro e
    rw [e, hB] at hq
    obtain rfl := Option.some.inj hq
    exact hq4 rfl
theorem c_dqRemoveLast {h : AH} {a v : Nat} {xs : List Nat} (hA : DQ h a (xs ++ [v])) : Call MJ3_removeLast 3 [Rf a] h (Ret fun r h1 => r = some (Rf v) ∧ DQ h1 a xs ∧ FrA a h h1 ∧ h1.2.1 = h.2.1 ∧ h1.2.2.1 = h.2.2.1) := by
  obtain ⟨tg, b, hd, tl, f, hA1, -⟩ := id hA
  refine call_of okJ3_removeLast (by decide +kernel) (Nat.le_of_ble_eq_true rfl) ?_
  refine e_run 1 1 rfl ?_
  refine e_iv0 (by decide) lkvJ3_100 rfl hA1 (Nat.le_of_ble_eq_true rfl) (c_dqPollLast hA) fun r h2 w2 g2 hP => ?_
  obtain ⟨rfl, hP⟩ := hP
  refine e_run 2 6 rfl ?_
  refine e_ifnonnull 17 rfl rfl (fun ac5 c5 => ?_) (fun c5 => ?_)
  · refine e_run 1 18 rfl ?_
    refine ex_areturn rfl ⟨_, rfl, by first | exact Or.inl ⟨_, rfl⟩ | exact Or.inr ⟨_, rfl⟩⟩ ?_
    exact ⟨_, rfl, rfl, hP⟩
  · cases c5
