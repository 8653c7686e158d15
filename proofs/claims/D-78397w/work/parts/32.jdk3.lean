/-! JDK, third: ArrayList's making, emptying, taking out, putting in -/
theorem c_initAC {h : AH} {a : Nat} : Call MJ0_init 1 [Rf a] h (Ret fun v h1 => v = none ∧ h1 = h) := by
  refine call_of okJ0_init (by decide +kernel) (Nat.le_of_ble_eq_true rfl) ?_
  refine e_run 1 1 rfl ?_
  refine e_objInit lkoJ0_1 q190 q191 rfl (Nat.le_of_ble_eq_true rfl) ?_
  refine ex_return rfl rfl ?_
  exact ⟨_, rfl, rfl, rfl⟩
theorem c_initAL {h : AH} {a : Nat} {tg : Tg} {r : Option Nat} {n : Int} (hA : h.1 a = some (tg, oObj 15 [J 0, Ro r, J n])) (t0 : tg.1 = 3) : Call MJ1_init 2 [Rf a] h (Ret fun v h1 => v = none ∧ h1 = hset h a (tg, oObj 15 [J 0, Ro r, J n])) := by
  refine call_of okJ1_init (by decide +kernel) (Nat.le_of_ble_eq_true rfl) ?_
  refine e_run 1 1 rfl ?_
  refine e_ii0 (by decide) lkiJ1_1 rfl (Nat.le_of_ble_eq_true rfl) c_initAC fun v h2 w2 g2 hP => ?_
  obtain ⟨rfl, rfl⟩ := hP
  refine e_run 2 6 rfl ?_
  refine e_putf fwJ1_7_J2 rfl hA (by omega) (Nat.le_of_ble_eq_true rfl) (pn_int _) ?_
  refine ex_return rfl rfl ?_
  exact ⟨_, rfl, rfl, rfl⟩
/-- new ArrayList() -/
theorem c_initArr {h : AH} {a : Nat} {tg : Tg} (hA : h.1 a = some (tg, oObj 15 [J 0, Rn, J 0])) (t0 : tg.1 = 3) (hS : Sd h) : Call MJ2_init 3 [Rf a] h (Ret fun v h1 => v = none ∧ (∃ b, AL h1 a [] b 0) ∧ FrA a h h1 ∧ h1.2.1 = h.2.1 ∧ h1.2.2.1 = h.2.2.1) := by
  obtain ⟨⟨e, he, he1⟩, -⟩ := hS
  have hne : e ≠ a := by
    intro e9
    rw [e9, hA] at he1
    cases he1
  refine call_of okJ2_init (by decide +kernel) (Nat.le_of_ble_eq_true rfl) ?_
  refine e_run 1 1 rfl ?_
  refine e_ii0 (by decide) lkiJ2_1 rfl (Nat.le_of_ble_eq_true rfl) (c_initAL hA t0) fun v h2 w2 g2 hP => ?_
  obtain ⟨rfl, rfl⟩ := hP
  refine e_run 1 5 rfl ?_
  refine e_gets (k := 0) rfl he gsJ2_39 rfl ?_
  refine e_putf fwJ2_9 rfl hset_at (by first | decide | omega) (Nat.le_of_ble_eq_true rfl) (pn_arr _ _) ?_
  refine ex_return rfl rfl ?_
  rw [hset_hset]
  refine ⟨_, rfl, rfl, ⟨e, 0, tg, fun _ => none, (0, 0), hset_at, t0, (hset_ne hne).trans he1, Or.inl ⟨rfl, he, rfl⟩, Nat.le_refl _, by omega, fun i => rfl⟩, fun q x hq hqa _ => (hset_ne hqa).trans hq, rfl, rfl⟩
theorem clear_loop {a b cap n : Nat} {tb : Tg} (k : Nat) : ∀ (i : Nat) (g : Nat → Option Nat) (h : AH), i + k = n → n ≤ cap → cap ≤ 1000000 → (k = 0 ∨ tb.1 ≠ 0) → h.1 b = some (tb, oRef 4 cap g) →
    Ex MJ2_clear 1 27 [(3, J i), (2, J n), (1, Rf b), (0, Rf a)] [] h (Ret fun v h1 => v = none ∧ (∃ g', h1.1 b = some (tb, oRef 4 cap g') ∧ ∀ j, g' j = if i ≤ j ∧ j < n then none else g j) ∧ (∀ q, q ≠ b → h1.1 q = h.1 q) ∧ h1.2 = h.2) := by
  induction k with
  | zero =>
    intro i g h hi hn hc ht hB
    refine e_run 2 29 rfl ?_
    refine e_icmpge 42 rfl rfl (by omega) (by omega) (fun c1 => ?_) (fun c1 => ?_)
    · refine ex_return rfl rfl ?_
      refine ⟨_, rfl, rfl, ⟨g, hB, fun j => ?_⟩, fun _ _ => rfl, rfl⟩
      rw [if_neg (by omega)]
    · omega
  | succ k ih =>
    intro i g h hi hn hc ht hB
    refine e_run 2 29 rfl ?_
    refine e_icmpge 42 rfl rfl (by omega) (by omega) (fun c1 => ?_) (fun c1 => ?_)
    · omega
    refine e_run 3 35 rfl ?_
    refine e_aastN (E := "java/lang/Object") rfl hB rfl (by omega) (by omega) (by omega) (by omega) ?_
    refine e_run 2 27 rfl ?_
    refine ex_post (ih (i + 1) _ _ (by omega) hn hc (by omega) hset_at) fun o h1 w1 g1 hq => ?_
    obtain ⟨v, rfl, rfl, ⟨g', hg, hg2⟩, hq2, hq3⟩ := hq
    refine ⟨_, rfl, rfl, ⟨g', hg, fun j => ?_⟩, fun q hq => (hq2 q hq).trans (hset_ne hq), hq3⟩
    rw [hg2]
    show (if i + 1 ≤ j ∧ j < n then none else if j = (i : Int).toNat then none else g j) = _
    by_cases h1 : i + 1 ≤ j ∧ j < n
    · rw [if_pos h1, if_pos (by omega)]
    · rw [if_neg h1]
      by_cases h2 : j = i
      · rw [if_pos (by omega), if_pos (by omega)]
      · rw [if_neg (by omega), if_neg (by omega)]
theorem c_clear {h : AH} {a : Nat} {xs : List Nat} {b cap : Nat} (hA : AL h a xs b cap) : Call MJ2_clear 1 [Rf a] h (Ret fun v h1 => v = none ∧ AL h1 a [] b cap ∧ FrA a h h1 ∧ h1.2.1 = h.2.1 ∧ h1.2.2.1 = h.2.2.1) := by
  obtain ⟨m, tg, f, tb, hA1, t0, hB, hD, hc1, hc2, hf⟩ := id hA
  have hne : b ≠ a := by
    intro e
    rw [e, hA1] at hB
    cases hB
  refine call_of okJ2_clear (by decide +kernel) (Nat.le_of_ble_eq_true rfl) ?_
  refine e_run 2 2 rfl ?_
  refine e_getf fwJ2_63 rfl hA1 rfl ?_
  refine e_run 2 7 rfl ?_
  refine e_putf fwJ2_63 rfl hA1 (by first | decide | omega) (Nat.le_of_ble_eq_true rfl) (pn_int _) ?_
  refine e_run 1 11 rfl ?_
  refine e_getf fwJ2_9 rfl hset_at rfl ?_
  refine e_run 2 16 rfl ?_
  refine e_getf fwJ2_48 rfl hset_at rfl ?_
  refine e_run 4 23 rfl ?_
  refine e_putf fwJ2_48 rfl hset_at (by first | decide | omega) (Nat.le_of_ble_eq_true rfl) (pn_int _) ?_
  refine e_run 1 27 rfl ?_
  refine ex_post (clear_loop (cap := cap) (tb := tb) (n := xs.length) (a := a) xs.length 0 f _ (by omega) hc1 hc2 ?_ ((hset_ne hne).trans ((hset_ne hne).trans hB))) fun o h1 w1 g1 hq => ?_
  · rcases hD with ⟨z, -⟩ | ⟨-, z⟩
    · exact Or.inl (by omega)
    · exact Or.inr (by rw [z]; exact (show (4 : Nat) ≠ 0 by decide))
  obtain ⟨v, rfl, rfl, ⟨g', hg, hg2⟩, hq2, hq3⟩ := hq
  refine ⟨_, rfl, rfl, ⟨m + 1, tg, g', tb, ?_, t0, hg, ?_, Nat.zero_le _, hc2, fun i => ?_⟩, fun q x hq hqa hq4 => ?_, ?_, ?_⟩
  · rw [hq2 a (Ne.symm hne)]
    exact hset_at
  · rw [show h1.2.2.2 = h.2.2.2 by rw [hq3]; rfl]
    exact hD
  · rw [hg2, hf]
    split
    · rfl
    · exact List.getElem?_eq_none (by omega)
  · by_cases hqb : q = b
    · subst hqb
      cases Option.some.inj (hB.symm.trans hq)
      rcases hD with ⟨z, z2, z3⟩ | ⟨-, z⟩
      · rw [hg]
        congr 3
        funext j
        rw [hg2, if_neg (by omega)]
      · exact absurd z hq4
    · rw [hq2 q hqb]
      exact (hset_ne hqa).trans ((hset_ne hqa).trans hq)
  · rw [hq3]; rfl
  · rw [hq3]; rfl
/-- es[i] goes out; the rest moves down -/
theorem c_fastRemove {h : AH} {a i : Nat} {xs : List Nat} {b cap : Nat} (hA : AL h a xs b cap) (hi : i < xs.length) (hx : ∀ x ∈ xs, El h x ∧ x ≠ a) : Call MJ2_fastRemove 2 [Rf a, Rf b, J i] h (Ret fun v h1 => v = none ∧ AL h1 a (xs.eraseIdx i) b cap ∧ FrA a h h1 ∧ h1.2.1 = h.2.1 ∧ h1.2.2.1 = h.2.2.1) := by
  obtain ⟨m, tg, f, tb, hA1, t0, hB, hD, hc1, hc2, hf⟩ := id hA
  have hne : b ≠ a := by
    intro e
    rw [e, hA1] at hB
    cases hB
  have hD4 : 1 ≤ cap ∧ tb = (4, a) := by
    rcases hD with ⟨z, -⟩ | z
    · omega
    · exact z
  have tb0 : tb.1 ≠ 0 := by rw [hD4.2]; exact (show (4 : Nat) ≠ 0 by decide)
  have hl : (xs.eraseIdx i).length = xs.length - 1 := List.length_eraseIdx_of_lt hi
  refine call_of okJ2_fastRemove (by decide +kernel) (Nat.le_of_ble_eq_true rfl) ?_
  have hB1 : (hset h a (tg, oObj 15 [J (m + 1), Rf b, J xs.length])).1 b = some (tb, oRef 4 cap f) := (hset_ne hne).trans hB
  refine e_run 2 2 rfl ?_
  refine e_getf fwJ2_63 rfl hA1 rfl ?_
  refine e_run 2 7 rfl ?_
  refine e_putf fwJ2_63 rfl hA1 (by first | decide | omega) (Nat.le_of_ble_eq_true rfl) (pn_int _) ?_
  refine e_run 1 11 rfl ?_
  refine e_getf fwJ2_48 rfl hset_at rfl ?_
  refine e_run 5 19 rfl ?_
  have fin : ∀ g : Nat → Option Nat, (∀ j, j < xs.length - 1 → g j = (xs.eraseIdx i)[j]?) → (∀ j, xs.length ≤ j → g j = none) →
      Ex MJ2_fastRemove 2 34 [(3, J ((xs.length : Int) - 1)), (0, Rf a), (1, Rf b), (2, J i)] [] (hset (hset h a (tg, oObj 15 [J (m + 1), Rf b, J xs.length])) b (tb, oRef 4 cap g)) (Ret fun v h1 => v = none ∧ AL h1 a (xs.eraseIdx i) b cap ∧ FrA a h h1 ∧ h1.2.1 = h.2.1 ∧ h1.2.2.1 = h.2.2.1) := by
    intro g hg1 hg2
    have hA3 : (hset (hset h a (tg, oObj 15 [J (m + 1), Rf b, J xs.length])) b (tb, oRef 4 cap g)).1 a = some (tg, oObj 15 [J (m + 1), Rf b, J xs.length]) := (hset_ne (Ne.symm hne)).trans hset_at
    refine e_run 4 38 rfl ?_
    refine e_putf fwJ2_48 rfl hA3 (by first | decide | omega) (Nat.le_of_ble_eq_true rfl) (pn_int _) ?_
    refine e_run 1 42 rfl ?_
    refine e_aastN (E := "java/lang/Object") rfl ((hset_ne hne).trans hset_at) rfl tb0 (by omega) (by omega) (by omega) ?_
    refine ex_return rfl rfl ?_
    refine ⟨_, rfl, rfl, ⟨m + 1, tg, _, tb, ?_, t0, hset_at, Or.inr hD4, by omega, hc2, fun j => ?_⟩, fun q x hq hqa hq4 => ?_, rfl, rfl⟩
    · rw [hl, show ((xs.length - 1 : Nat) : Int) = (xs.length : Int) - 1 by omega]
      exact (hset_ne (Ne.symm hne)).trans hset_at
    · show (if j = ((xs.length : Int) - 1).toNat then none else g j) = _
      by_cases hj : j < xs.length - 1
      · rw [if_neg (by omega), hg1 j hj]
      · rw [List.getElem?_eq_none (by omega)]
        split
        · rfl
        · exact hg2 j (by omega)
    · have hqb : q ≠ b := by
        intro e
        subst e
        cases Option.some.inj (hB.symm.trans hq)
        exact hq4 hD4.2
      exact (hset_ne hqb).trans ((hset_ne hqa).trans ((hset_ne hqb).trans ((hset_ne hqa).trans hq)))
  refine e_icmple 34 rfl rfl (by omega) (by omega) (fun c1 => ?_) (fun c1 => ?_)
  · have k := fin f (fun j hj => by rw [hf, List.getElem?_eraseIdx, if_pos (by omega)]) (fun j hj => by rw [hf]; exact List.getElem?_eq_none hj)
    have he : hset (hset h a (tg, oObj 15 [J (m + 1), Rf b, J xs.length])) b (tb, oRef 4 cap f) = hset h a (tg, oObj 15 [J (m + 1), Rf b, J xs.length]) := hset_self hB1
    rw [he] at k
    exact k
  · refine e_run 9 31 rfl ?_
    refine e_copyR (E := "java/lang/Object") (E2 := "java/lang/Object") lkaJ2_112 rfl hB1 hB1 tb0 rfl rfl ?_ (by omega) (by omega) (by omega) (by omega) (by omega) (by omega) (by omega) (Nat.le_of_ble_eq_true rfl) ?_
    · intro j hj v hv
      rw [hf] at hv
      obtain ⟨tv, ov, h1, h2, h3⟩ := (hx v (List.mem_of_getElem? hv)).1
      exact ⟨tv, ov, (hset_ne (hx v (List.mem_of_getElem? hv)).2).trans h1, h2⟩
    refine fin _ (fun j hj => ?_) (fun j hj => ?_)
    · show (if (i : Int).toNat ≤ j ∧ j < (i : Int).toNat + ((xs.length : Int) - 1 - i).toNat then f (((i : Int) + 1).toNat + (j - (i : Int).toNat)) else f j) = _
      rw [List.getElem?_eraseIdx, hf, hf]
      by_cases hji : j < i
      · rw [if_neg (by omega), if_pos hji]
      · rw [if_pos (by omega), if_neg hji]
        congr 1
        omega
    · show (if (i : Int).toNat ≤ j ∧ j < (i : Int).toNat + ((xs.length : Int) - 1 - i).toNat then f (((i : Int) + 1).toNat + (j - (i : Int).toNat)) else f j) = _
      rw [if_neg (by omega), hf]
      exact List.getElem?_eq_none hj
theorem c_remove {h : AH} {a i : Nat} {xs : List Nat} {b cap : Nat} (hA : AL h a xs b cap) (hi : i < xs.length) (hx : ∀ x ∈ xs, El h x ∧ x ≠ a) : Call MJ2_remove 3 [Rf a, J i] h (Ret fun v h1 => v = some (Rf xs[i]) ∧ AL h1 a (xs.eraseIdx i) b cap ∧ FrA a h h1 ∧ h1.2.1 = h.2.1 ∧ h1.2.2.1 = h.2.2.1) := by
  obtain ⟨m, tg, f, tb, hA1, t0, hB, hD, hc1, hc2, hf⟩ := id hA
  refine call_of okJ2_remove (by decide +kernel) (Nat.le_of_ble_eq_true rfl) ?_
  refine e_run 2 2 rfl ?_
  refine e_getf fwJ2_48 rfl hA1 rfl ?_
  refine e_is2 (by decide) lksJ2_118 rfl (Nat.le_of_ble_eq_true rfl) (c_check (by omega) (by omega) (by omega)) fun v h2 w2 g2 hP => ?_
  obtain ⟨rfl, rfl⟩ := hP
  refine e_run 2 10 rfl ?_
  refine e_getf fwJ2_9 rfl hA1 rfl ?_
  refine e_run 3 16 rfl ?_
  refine e_aald rfl hB ⟨_, rfl, rfl⟩ (by omega) (by omega) (by omega) ?_
  refine e_run 4 21 rfl ?_
  refine e_iv2 (by decide) lkvJ2_144 rfl hA1 (Nat.le_of_ble_eq_true rfl) (c_fastRemove hA hi hx) fun v h3 w3 g3 hP => ?_
  obtain ⟨rfl, hP⟩ := hP
  refine e_run 1 25 rfl ?_
  refine ex_areturn rfl ⟨_, rfl, by first | exact Or.inl ⟨_, rfl⟩ | exact Or.inr ⟨_, rfl⟩⟩ ?_
  refine ⟨_, rfl, ?_, hP⟩
  rw [hf, Int.toNat_natCast, List.getElem?_eq_getElem hi]
theorem c_rangeAdd {h : AH} {a i : Nat} {xs : List Nat} {b cap : Nat} (hA : AL h a xs b cap) (hi : i ≤ xs.length) : Call MJ2_rangeCheckForAdd 1 [Rf a, J i] h (Ret fun v h1 => v = none ∧ h1 = h) := by
  obtain ⟨m, tg, f, tb, hA1, t0, hB, hD, hc1, hc2, hf⟩ := id hA
  refine call_of okJ2_rangeCheckForAdd (by decide +kernel) (Nat.le_of_ble_eq_true rfl) ?_
  refine e_run 2 2 rfl ?_
  refine e_getf fwJ2_48 rfl hA1 rfl ?_
  refine e_icmpgt 12 rfl rfl (by omega) (by omega) (fun c1 => ?_) (fun c1 => ?_)
  · omega
  refine e_run 1 9 rfl ?_
  refine e_ifge 25 rfl rfl (by omega) (fun c2 => ?_) (fun c2 => ?_)
  · refine ex_return rfl rfl ?_
    exact ⟨_, rfl, rfl, rfl⟩
  · omega
/-- list.add(i, x) -/
theorem c_addAt {h : AH} {a v i : Nat} {xs : List Nat} {b cap : Nat} (hA : AL h a xs b cap) (hi : i ≤ xs.length) (hv : El h v) (hva : v ≠ a) (hx : ∀ x ∈ xs, El h x ∧ x ≠ a) (hS : Sd h) (hc : xs.length < 600000) :
    Call MJ2_add_3 8 [Rf a, J i, Rf v] h (Ret fun r h1 => r = none ∧ (∃ b', AL h1 a (xs.insertIdx i v) b' (acap xs.length cap)) ∧ FrA a h h1 ∧ h1.2.1 = h.2.1 + (if xs.length = cap then 1 else 0) ∧ h1.2.2.1 = h.2.2.1 + (if xs.length = cap then ncap cap else 0)) := by
  refine call_wf fun w => ?_
  obtain ⟨m, tg, f, tb, hA1, t0, hB, hD, hc1, hc2, hf⟩ := id hA
  have hne : b ≠ a := by
    intro e
    rw [e, hA1] at hB
    cases hB
  have hl : (xs.insertIdx i v).length = xs.length + 1 := List.length_insertIdx_of_le_length hi _
  refine call_of okJ2_add_3 (by decide +kernel) (Nat.le_of_ble_eq_true rfl) ?_
  refine e_run 2 2 rfl ?_
  refine e_iv1 (by decide) lkvJ2_135 rfl hA1 (Nat.le_of_ble_eq_true rfl) (c_rangeAdd hA hi) fun r h2 w2 g2 hP => ?_
  obtain ⟨rfl, rfl⟩ := hP
  have hB1 : (hset h2 a (tg, oObj 15 [J (m + 1), Rf b, J xs.length])).1 b = some (tb, oRef 4 cap f) := (hset_ne hne).trans hB
  have hF1 : FrA a h2 (hset h2 a (tg, oObj 15 [J (m + 1), Rf b, J xs.length])) := fun q x hq hqa _ => (hset_ne hqa).trans hq
  have hAL : AL (hset h2 a (tg, oObj 15 [J (m + 1), Rf b, J xs.length])) a xs b cap := ⟨_, tg, f, tb, hset_at, t0, hB1, hD, hc1, hc2, hf⟩
  refine e_run 2 7 rfl ?_
  refine e_getf fwJ2_63 rfl hA1 rfl ?_
  refine e_run 2 12 rfl ?_
  refine e_putf fwJ2_63 rfl hA1 (by first | decide | omega) (Nat.le_of_ble_eq_true rfl) (pn_int _) ?_
  refine e_run 1 16 rfl ?_
  refine e_getf fwJ2_48 rfl hset_at rfl ?_
  refine e_run 3 22 rfl ?_
  refine e_getf fwJ2_9 rfl hset_at rfl ?_
  refine e_run 2 28 rfl ?_
  refine e_alen rfl hB1 (by decide) (by omega) ?_
  have fin : ∀ (h3 : AH) (b' cap' : Nat) (f' : Nat → Option Nat) (m' : Int) (tg' : Tg) (l' : Lc), tg'.1 = 3 → LSub l' [(4, Rf b'), (3, J xs.length), (0, Rf a), (1, J i), (2, Rf v)] → FrA a h2 h3 → h3.1 a = some (tg', oObj 15 [J m', Rf b', J xs.length]) → h3.1 b' = some ((4, a), oRef 4 cap' f') → b' ≠ a → xs.length < cap' → cap' ≤ 1000000 → (∀ j, f' j = xs[j]?) →
      Ex MJ2_add_3 8 38 l' [] h3 (Ret fun r h1 => r = none ∧ AL h1 a (xs.insertIdx i v) b' cap' ∧ FrA a h2 h1 ∧ h1.2.1 = h3.2.1 ∧ h1.2.2.1 = h3.2.2.1) := by
    intro h3 b' cap' f' m' tg' l' t0' hl' hF3 hA3 hB3 hne3 hcap hcap2 hf3
    refine ex_loc _ hl' ?_
    have kv : ∀ x, El h2 x → x ≠ a → El h3 x := fun x e hxa => e.kp hF3 hxa
    refine e_run 9 49 rfl ?_
    refine e_copyR (E := "java/lang/Object") (E2 := "java/lang/Object") lkaJ2_112 rfl hB3 hB3 (show (4 : Nat) ≠ 0 by decide) rfl rfl ?_ (by omega) (by omega) (by omega) (by omega) (by omega) (by omega) (by omega) (Nat.le_of_ble_eq_true rfl) ?_
    · intro j hj x hx9
      rw [hf3] at hx9
      obtain ⟨tv, ov, h1, h2, h3⟩ := kv x (hx x (List.mem_of_getElem? hx9)).1 (hx x (List.mem_of_getElem? hx9)).2
      exact ⟨tv, ov, h1, h2⟩
    have hvb : v ≠ b' := by
      intro e
      obtain ⟨tv, ov, h1, -, h3⟩ := kv v hv hva
      rw [e, hB3] at h1
      cases h1
      exact h3 rfl
    obtain ⟨tv, ov, hv1, hv2, hv4⟩ := kv v hv hva
    refine e_run 3 56 rfl ?_
    refine e_aast (E := "java/lang/Object") rfl hset_at rfl ((hset_ne hvb).trans hv1) hv2 (show (4 : Nat) ≠ 0 by decide) (by omega) (by omega) (by omega) ?_
    rw [hset_hset]
    refine e_run 4 61 rfl ?_
    refine e_putf fwJ2_48 rfl ((hset_ne (Ne.symm hne3)).trans hA3) (by first | decide | omega) (Nat.le_of_ble_eq_true rfl) (pn_int _) ?_
    refine ex_return rfl rfl ?_
    refine ⟨_, rfl, rfl, ⟨m', tg', _, (4, a), ?_, t0', (hset_ne hne3).trans hset_at, Or.inr ⟨by omega, rfl⟩, by omega, hcap2, fun j => ?_⟩, fun q x hq hqa hq4 => ?_, rfl, rfl⟩
    · rw [hl]
      exact hset_at
    · show (if j = (i : Int).toNat then some v else if ((i : Int) + 1).toNat ≤ j ∧ j < ((i : Int) + 1).toNat + ((xs.length : Int) - i).toNat then f' ((i : Int).toNat + (j - ((i : Int) + 1).toNat)) else f' j) = _
      rw [List.getElem?_insertIdx, hf3, hf3]
      by_cases h1 : j < i
      · rw [if_neg (by omega), if_neg (by omega), if_pos h1]
      · rw [if_neg h1]
        by_cases h2 : j = i
        · rw [if_pos (by omega), if_pos h2, if_pos (by omega)]
        · rw [if_neg (by omega), if_neg h2]
          by_cases h3 : j < xs.length + 1
          · rw [if_pos (by omega)]
            congr 1
            omega
          · rw [if_neg (by omega), List.getElem?_eq_none (by omega), List.getElem?_eq_none (by omega)]
    · refine (hset_ne hqa).trans ((hset_ne ?_).trans (hF3 q x hq hqa hq4))
      intro e
      have h9 := hF3 q x hq hqa hq4
      rw [e, hB3] at h9
      obtain rfl := Option.some.inj h9
      exact hq4 rfl
  refine e_icmpne 38 rfl rfl (by omega) (by omega) (fun c1 => ?_) (fun c1 => ?_)
  · have hD4 : tb = (4, a) := by
      rcases hD with ⟨z, -⟩ | z
      · omega
      · exact z.2
    refine ex_post (fin _ b cap f (m + 1) tg _ t0 ⟨rfl, rfl, rfl, rfl, rfl, trivial⟩ hF1 hset_at (by rw [← hD4]; exact hB1) hne (by omega) hc2 hf) fun o h1 w1 g1 hq => ?_
    obtain ⟨r, rfl, rfl, k1, k2, k3, k4⟩ := hq
    rw [show acap xs.length cap = cap by unfold acap; rw [if_neg (by omega)], if_neg (by omega), if_neg (by omega)]
    exact ⟨_, rfl, rfl, ⟨b, k1⟩, k2, k3, k4⟩
  · have heq : xs.length = cap := by omega
    refine e_run 1 33 rfl ?_
    refine e_iv0 (by decide) lkvJ2_129 rfl hset_at (Nat.le_of_ble_eq_true rfl) (c_grow hAL (fun x hx1 => (hx x hx1).1.kp hF1 (hx x hx1).2) (hS.kp (Grow.rf h2) (hF1.k0 hA.own)) heq (by omega)) fun r h3 w3 g3 hP => ?_
    obtain ⟨rfl, hA4, hF, hs1, hs2⟩ := hP
    obtain ⟨m5, tg5, f5, tb5, hA5, t5, hB5, hD5, hc5, hc6, hf5⟩ := hA4
    have hcap : cap + 1 ≤ ncap cap := by
      unfold ncap
      split <;> omega
    have hD6 : tb5 = (4, a) := by
      rcases hD5 with ⟨z, -⟩ | z
      · omega
      · exact z.2
    have hne5 : h2.2.1 ≠ a := Ne.symm (Nat.ne_of_lt (w _ _ hA1))
    refine e_run 1 38 rfl ?_
    refine ex_post (fin h3 h2.2.1 (ncap cap) f5 m5 tg5 _ t5 ⟨rfl, rfl, rfl, rfl, rfl, trivial⟩ (hF1.tr hF) hA5 (by rw [← hD6]; exact hB5) hne5 (by omega) hc6 hf5) fun o h1 w1 g1 hq => ?_
    obtain ⟨r, rfl, rfl, k1, k2, k3, k4⟩ := hq
    rw [show acap xs.length cap = ncap cap by unfold acap; rw [if_pos heq], if_pos heq, if_pos heq]
    exact ⟨_, rfl, rfl, ⟨_, k1⟩, k2, k3.trans hs1, k4.trans hs2⟩
