/-! JDK, second: rows of objects are copied and grow; ArrayList's writing methods -/
/-- a thing that a row of objects may hold -/
def El (h : AH) (v : Nat) : Prop := ∃ tv ov, h.1 v = some (tv, ov) ∧ Can "java/lang/Object" ov ∧ tv.1 ≠ 4
/-- what only the thing at a owns may differ -/
def FrA (a : Nat) (h h1 : AH) : Prop := ∀ q x, h.1 q = some x → q ≠ a → x.1 ≠ (4, a) → h1.1 q = some x
theorem FrA.rf (a : Nat) (h : AH) : FrA a h h := fun _ _ h _ _ => h
theorem FrA.tr {a : Nat} {h h1 h2 : AH} (x : FrA a h h1) (y : FrA a h1 h2) : FrA a h h2 := fun q z hq h0 h4 => y q z (x q z hq h0 h4) h0 h4
/-- standing static facts -/
def Sd (h : AH) : Prop := (∃ e, h.2.2.2 0 = Rf e ∧ h.1 e = some ((0, 0), oRef 4 0 (fun _ => none))) ∧ (∃ mi, h.2.2.2 20 = Rf mi) ∧ h.2.2.2 1 = J 1 ∧ h.2.2.2 2 = J 1
def K0 (h h1 : AH) : Prop := ∀ q x, h.1 q = some x → x.1.1 = 0 → h1.1 q = some x
theorem Sd.kp {h h1 : AH} (s : Sd h) (g : Grow h h1) (k : K0 h h1) : Sd h1 := by
  obtain ⟨⟨e, he, he1⟩, s2⟩ := s
  refine ⟨⟨e, by rw [g.2.2]; exact he, k e _ he1 rfl⟩, ?_⟩
  rw [g.2.2]
  exact s2
theorem FrA.k0 {a : Nat} {h h1 : AH} (k : FrA a h h1) (ha : ∃ x, h.1 a = some x ∧ x.1.1 ≠ 0) : K0 h h1 := fun q x hq h0 => by
  refine k q x hq ?_ ?_
  · intro e
    rw [e] at hq
    obtain ⟨y, hy, hy0⟩ := ha
    rw [hy] at hq
    obtain rfl := Option.some.inj hq
    exact hy0 h0
  · intro e
    rw [e] at h0
    exact absurd (show (4 : Nat) = 0 from h0) (by decide)
theorem AL.own {h : AH} {a : Nat} {xs : List Nat} {b cap : Nat} (hA : AL h a xs b cap) : ∃ x, h.1 a = some x ∧ x.1.1 ≠ 0 := by
  obtain ⟨m, tg, f, tb, hA, t0, -⟩ := hA
  exact ⟨_, hA, by rw [t0]; decide⟩
theorem AL.kp {h h1 : AH} {a q : Nat} {xs : List Nat} {b cap : Nat} (hA : AL h a xs b cap) (g : Grow h h1) (k : FrA q h h1) (hq : a ≠ q) (hq2 : ∃ x, h.1 q = some x ∧ x.1.1 = 3) : AL h1 a xs b cap := by
  obtain ⟨m, tg, f, tb, hA, t0, hB, hD, r⟩ := hA
  refine ⟨m, tg, f, tb, k _ _ hA hq ?_, t0, k _ _ hB ?_ ?_, ?_, r⟩
  · intro e
    rw [show tg = (4, q) from e] at t0
    exact absurd (show (4 : Nat) = 3 from t0) (by decide)
  · intro e
    rw [e] at hB
    obtain ⟨x, hx, hx3⟩ := hq2
    rw [hx] at hB
    obtain rfl := Option.some.inj hB
    rcases hD with ⟨-, -, z⟩ | ⟨-, z⟩
    · exact absurd ((show tb.1 = 3 from hx3).symm.trans z) (by decide)
    · rw [z] at hx3
      exact absurd (show (4 : Nat) = 3 from hx3) (by decide)
  · intro e
    rcases hD with ⟨-, -, z⟩ | ⟨-, z⟩
    · rw [show tb = (4, q) from e] at z
      exact absurd (show (4 : Nat) = 0 from z) (by decide)
    · rw [z] at e
      exact hq (congrArg Prod.snd e)
  · rw [g.2.2]
    exact hD
theorem El.kp {h h1 : AH} {a v : Nat} (e : El h v) (k : FrA a h h1) (hv : v ≠ a) : El h1 v := by
  obtain ⟨tv, ov, h1, h2, h3⟩ := e
  exact ⟨tv, ov, k _ _ h1 hv (fun e => h3 (congrArg Prod.fst (show tv = (4, a) from e))), h2, h3⟩
theorem hset_hnew (h : AH) (x y : Tg × Obj) (n : Nat) : hset (hnew h x n) h.2.1 y = hnew h y n := by
  unfold hset hnew
  refine Prod.ext (funext fun q => ?_) rfl
  show (if q = h.2.1 then some y else if q = h.2.1 then some x else h.1 q) = if q = h.2.1 then some y else h.1 q
  split <;> rfl
theorem hset_self {h : AH} {a : Nat} {x : Tg × Obj} (hx : h.1 a = some x) : hset h a x = h := by
  unfold hset
  refine Prod.ext (funext fun q => ?_) rfl
  show (if q = a then some x else h.1 q) = h.1 q
  split
  · rename_i e
    rw [e, hx]
  · rfl
theorem hset_hset (h : AH) (a : Nat) (x y : Tg × Obj) : hset (hset h a x) a y = hset h a y := by
  unfold hset
  refine Prod.ext (funext fun q => ?_) rfl
  show (if q = a then some y else if q = a then some x else h.1 q) = if q = a then some y else h.1 q
  split <;> rfl
theorem c_newLen {o m p : Int} {h : AH} (ho : 0 ≤ o ∧ o ≤ 5000000) (hm : 0 ≤ m ∧ m ≤ 5000000) (hp : 0 ≤ p ∧ p ≤ 5000000) (h1 : 1 ≤ o + max m p) : Call MJ18_newLength 2 [J o, J m, J p] h (Ret fun v h1 => v = some (J (o + max m p)) ∧ h1 = h) := by
  refine call_of okJ18_newLength (by decide +kernel) (Nat.le_of_ble_eq_true rfl) ?_
  refine e_run 3 3 rfl ?_
  refine e_is2 (by decide) lksJ18_194 rfl (Nat.le_of_ble_eq_true rfl) (c_max (by omega) (by omega)) fun v h2 w2 g2 hP => ?_
  obtain ⟨rfl, rfl⟩ := hP
  have hb : 0 ≤ max m p ∧ max m p ≤ 5000000 := by omega
  generalize max m p = y at *
  refine e_run 4 10 rfl ?_
  refine e_icmpge 21 rfl rfl (by omega) (by omega) (fun c1 => ?_) (fun c1 => ?_)
  · omega
  refine e_run 1 14 rfl ?_
  refine e_ldc 2147483639 kcJ18_200 rfl rfl ?_
  refine e_icmpgt 21 rfl rfl (by omega) (by omega) (fun c2 => ?_) (fun c2 => ?_)
  · omega
  refine e_run 1 20 rfl ?_
  refine ex_ireturn rfl ⟨_, rfl, rfl⟩ ?_
  exact ⟨_, rfl, rfl, rfl⟩
/-- the copy of a row of objects, longer or as long -/
theorem c_copyOf3 {a n mi : Nat} {len : Int} {tg : Tg} {f : Nat → Option Nat} {h : AH} (ha : h.1 a = some (tg, oRef 4 n f)) (hel : ∀ i, i < n → ∀ v, f i = some v → El h v) (hn : (n : Int) ≤ len) (hl : len ≤ 5000000) (hm : h.2.2.2 20 = Rf mi) (tg' : Tg) (htg : tg'.1 ≠ 0) :
    Call MJ14_copyOf_3 3 [Rf a, J len, Rf mi] h (Ret fun v h1 => v = some (Rf h.2.1) ∧ h1 = hnew h (tg', oRef 4 len.toNat (fun i => if i < n then f i else none)) len.toNat) := by
  refine call_wf fun w => ?_
  refine call_of okJ14_copyOf_3 (by decide +kernel) (Nat.le_of_ble_eq_true rfl) ?_
  refine e_run 1 1 rfl ?_
  refine e_ldcM (k := 0) rfl hm clJ14_110 rfl ?_
  refine e_acmpne 13 rfl rfl (fun c1 => ?_) (fun c1 => ?_)
  · exact absurd rfl c1
  refine e_run 1 7 rfl ?_
  refine e_anew (t := 4) tg' rfl clJ14_2 q289 rfl (by omega) (by omega) ?_
  have ha1 : (hnew h (tg', oRef 4 len.toNat (fun _ => none)) len.toNat).1 a = some (tg, oRef 4 n f) := hnew_old w ha
  refine e_run 7 30 rfl ?_
  refine e_alen rfl ha1 (by decide) (by omega) ?_
  refine e_run 1 32 rfl ?_
  refine e_is2 (by decide) lksJ14_304 rfl (Nat.le_of_ble_eq_true rfl) (c_min (by omega) (by omega)) fun v h2 w2 g2 hP => ?_
  obtain ⟨rfl, rfl⟩ := hP
  rw [show min (n : Int) len = n by omega]
  refine e_copyR (E := "java/lang/Object") (E2 := "java/lang/Object") (sp := 0) (dp := 0) lkaJ14_150 rfl ha1 hnew_at htg rfl rfl ?_ (by omega) (by omega) (by omega) (by omega) (by omega) (by omega) (by omega) (Nat.le_of_ble_eq_true rfl) ?_
  · intro i hi v hv
    obtain ⟨tv, ov, h1, h2, -⟩ := hel i (by omega) v (by rw [← hv]; congr 1; omega)
    exact ⟨tv, ov, hnew_old w h1, h2⟩
  rw [hset_hnew]
  refine e_run 1 39 rfl ?_
  refine ex_areturn rfl ⟨_, rfl, by first | exact Or.inl ⟨_, rfl⟩ | exact Or.inr ⟨_, rfl⟩⟩ ?_
  refine ⟨_, rfl, rfl, ?_⟩
  congr 3
  funext i
  show (if (0 : Int).toNat ≤ i ∧ i < (0 : Int).toNat + (n : Int).toNat then f ((0 : Int).toNat + (i - (0 : Int).toNat)) else none) = _
  by_cases hi : i < n
  · rw [if_pos hi, if_pos (by omega)]
    congr 1
    omega
  · rw [if_neg hi, if_neg (by omega)]
theorem c_copyOf2 {a n mi : Nat} {len : Int} {tg : Tg} {f : Nat → Option Nat} {h : AH} (ha : h.1 a = some (tg, oRef 4 n f)) (hel : ∀ i, i < n → ∀ v, f i = some v → El h v) (hn : (n : Int) ≤ len) (hl : len ≤ 5000000) (hm : h.2.2.2 20 = Rf mi) (tg' : Tg) (htg : tg'.1 ≠ 0) :
    Call MJ14_copyOf_2 4 [Rf a, J len] h (Ret fun v h1 => v = some (Rf h.2.1) ∧ h1 = hnew h (tg', oRef 4 len.toNat (fun i => if i < n then f i else none)) len.toNat) := by
  refine call_of okJ14_copyOf_2 (by decide +kernel) (Nat.le_of_ble_eq_true rfl) ?_
  refine e_run 3 3 rfl ?_
  refine e_getC (t := 4) (k := 0) rfl rfl hm q813 q3030 q3029 q814 q847 rfl ha (Nat.le_of_ble_eq_true rfl) ?_
  refine e_is3 (by decide) lksJ14_300 rfl (Nat.le_of_ble_eq_true rfl) (c_copyOf3 ha hel hn hl hm tg' htg) fun v h2 w2 g2 hP => ?_
  obtain ⟨rfl, rfl⟩ := hP
  refine ex_areturn rfl ⟨_, rfl, by first | exact Or.inl ⟨_, rfl⟩ | exact Or.inr ⟨_, rfl⟩⟩ ?_
  exact ⟨_, rfl, rfl, rfl⟩
/-- the length that a full row grows to -/
def ncap (cap : Nat) : Nat := if cap = 0 then 10 else cap + max 1 (cap / 2)
theorem c_grow2 {h : AH} {a : Nat} {xs : List Nat} {b cap : Nat} (hA : AL h a xs b cap) (hx : ∀ x ∈ xs, El h x) (hS : Sd h) (hf : xs.length = cap) (hc : cap < 600000) :
    Call MJ2_grow_2 5 [Rf a, J (xs.length + 1)] h (Ret fun v h1 => v = some (Rf h.2.1) ∧ AL h1 a xs h.2.1 (ncap cap) ∧ FrA a h h1 ∧ h1.2.1 = h.2.1 + 1 ∧ h1.2.2.1 = h.2.2.1 + ncap cap) := by
  refine call_wf fun w => ?_
  obtain ⟨m, tg, f, tb, hA1, t0, hB, hD, hc1, hc2, hf1⟩ := hA
  obtain ⟨⟨e, he, he1⟩, ⟨mi, hmi⟩, -⟩ := hS
  have hal := w _ _ hA1
  have hbl := w _ _ hB
  refine call_of okJ2_grow_2 (by decide +kernel) (Nat.le_of_ble_eq_true rfl) ?_
  refine e_run 1 1 rfl ?_
  refine e_getf fwJ2_9 rfl hA1 rfl ?_
  refine e_alen rfl hB (by decide) (by omega) ?_
  refine e_run 2 7 rfl ?_
  refine e_ifgt 20 rfl rfl (by omega) (fun c1 => ?_) (fun c1 => ?_)
  · have hcc : 1 ≤ cap ∧ tb = (4, a) := by
      rcases hD with ⟨z, -⟩ | z
      · omega
      · exact z
    refine e_run 6 26 rfl ?_
    refine e_ishr (k := 1) rfl (by omega) (by omega) ?_
    refine e_is3 (by decide) lksJ2_73 rfl (Nat.le_of_ble_eq_true rfl) (c_newLen (by omega) (by omega) (by omega) (by omega)) fun v h2 w2 g2 hP => ?_
    obtain ⟨rfl, rfl⟩ := hP
    rw [show (cap : Int) + max ((xs.length : Int) + 1 - cap) ((cap : Int) / 2 ^ 1) = (ncap cap : Int) by unfold ncap; rw [if_neg (by omega)]; omega]
    have hn : cap + 1 ≤ ncap cap ∧ ncap cap ≤ 1000000 := by
      unfold ncap
      rw [if_neg (by omega)]
      omega
    refine e_run 3 33 rfl ?_
    refine e_getf fwJ2_9 rfl hA1 rfl ?_
    refine e_run 1 37 rfl ?_
    refine e_is2 (by decide) lksJ2_66 rfl (Nat.le_of_ble_eq_true rfl) (c_copyOf2 hB (fun i hi v hv => hx v (List.mem_of_getElem? ((hf1 i).symm.trans hv))) (by omega) (by omega) hmi (4, a) (show (4 : Nat) ≠ 0 by decide)) fun v h2 w2 g2 hP => ?_
    obtain ⟨rfl, rfl⟩ := hP
    have hA2 := hnew_old (x := ((4, a), oRef 4 (ncap cap : Int).toNat (fun i => if i < cap then f i else none))) (n := (ncap cap : Int).toNat) w hA1
    refine e_run 1 41 rfl ?_
    refine e_putf fwJ2_9 rfl hA2 (by first | decide | omega) (Nat.le_of_ble_eq_true rfl) (pn_arr _ _) ?_
    refine ex_areturn rfl ⟨_, rfl, by first | exact Or.inl ⟨_, rfl⟩ | exact Or.inr ⟨_, rfl⟩⟩ ?_
    refine ⟨_, rfl, rfl, ⟨m, tg, _, (4, a), hset_at, t0, (hset_ne (by omega)).trans hnew_at, Or.inr ⟨by omega, rfl⟩, by omega, by omega, fun i => ?_⟩, fun q x hq hqa hq4 => ?_, rfl, ?_⟩
    · show (if i < cap then f i else none) = _
      split
      · exact hf1 i
      · exact (List.getElem?_eq_none (by omega)).symm
    · exact (hset_ne hqa).trans (hnew_old w hq)
    · rfl
  · have hcc : cap = 0 ∧ h.2.2.2 0 = Rf b := by
      rcases hD with ⟨z, y, -⟩ | z
      · exact ⟨z, y⟩
      · omega
    refine e_run 1 11 rfl ?_
    refine e_getf fwJ2_9 rfl hA1 rfl ?_
    refine e_gets (k := 0) rfl hcc.2 gsJ2_39 rfl ?_
    refine e_acmpeq 45 rfl rfl (fun c2 => ?_) (fun c2 => absurd rfl c2)
    refine e_run 3 49 rfl ?_
    refine e_is2 (by decide) lksJ2_79 rfl (Nat.le_of_ble_eq_true rfl) (c_max (by omega) (by omega)) fun v h2 w2 g2 hP => ?_
    obtain ⟨rfl, rfl⟩ := hP
    rw [show max (10 : Int) ((xs.length : Int) + 1) = 10 by omega]
    refine e_anew (t := 4) (4, a) rfl clJ2_7 q289 rfl (by omega) (by omega) ?_
    have hA2 := hnew_old (x := ((4, a), oRef 4 (10 : Int).toNat (fun _ => none))) (n := (10 : Int).toNat) w hA1
    refine e_run 1 56 rfl ?_
    refine e_putf fwJ2_9 rfl hA2 (by first | decide | omega) (Nat.le_of_ble_eq_true rfl) (pn_arr _ _) ?_
    refine ex_areturn rfl ⟨_, rfl, by first | exact Or.inl ⟨_, rfl⟩ | exact Or.inr ⟨_, rfl⟩⟩ ?_
    have hz : ncap cap = 10 := by unfold ncap; rw [if_pos hcc.1]
    have hx0 : xs = [] := List.length_eq_zero_iff.mp (by omega)
    refine ⟨_, rfl, rfl, ⟨m, tg, fun _ => none, (4, a), hset_at, t0, ?_, Or.inr ⟨by omega, rfl⟩, by omega, by omega, fun i => ?_⟩, fun q x hq hqa hq4 => ?_, rfl, ?_⟩
    · rw [hz]
      exact (hset_ne (by omega)).trans hnew_at
    · rw [hx0]
      rfl
    · exact (hset_ne hqa).trans (hnew_old w hq)
    · rw [hz]
      rfl
theorem c_grow {h : AH} {a : Nat} {xs : List Nat} {b cap : Nat} (hA : AL h a xs b cap) (hx : ∀ x ∈ xs, El h x) (hS : Sd h) (hf : xs.length = cap) (hc : cap < 600000) :
    Call MJ2_grow 6 [Rf a] h (Ret fun v h1 => v = some (Rf h.2.1) ∧ AL h1 a xs h.2.1 (ncap cap) ∧ FrA a h h1 ∧ h1.2.1 = h.2.1 + 1 ∧ h1.2.2.1 = h.2.2.1 + ncap cap) := by
  obtain ⟨m, tg, f, tb, hA1, t0, hB, hD, hc1, hc2, hf1⟩ := id hA
  refine call_of okJ2_grow (by decide +kernel) (Nat.le_of_ble_eq_true rfl) ?_
  refine e_run 2 2 rfl ?_
  refine e_getf fwJ2_48 rfl hA1 rfl ?_
  refine e_run 2 7 rfl ?_
  refine e_iv1 (by decide) lkvJ2_69 rfl hA1 (Nat.le_of_ble_eq_true rfl) (c_grow2 hA hx hS hf hc) fun v h2 w2 g2 hP => ?_
  obtain ⟨rfl, hP⟩ := hP
  refine ex_areturn rfl ⟨_, rfl, by first | exact Or.inl ⟨_, rfl⟩ | exact Or.inr ⟨_, rfl⟩⟩ ?_
  exact ⟨_, rfl, rfl, hP⟩
def acap (n cap : Nat) : Nat := if n = cap then ncap cap else cap
/-- an element is put behind the last one -/
theorem AL.push {h : AH} {a : Nat} {xs : List Nat} {b cap v : Nat} {m : Int} {tg : Tg} {f : Nat → Option Nat} {tb : Tg} (hA : h.1 a = some (tg, oObj 15 [J m, Rf b, J xs.length])) (t0 : tg.1 = 3) (hB : h.1 b = some (tb, oRef 4 cap f)) (hD : tb = (4, a)) (hc : xs.length < cap) (hc2 : cap ≤ 1000000) (hf : ∀ i, f i = xs[i]?) (hne : a ≠ b) :
    AL (hset (hset h b (tb, oRef 4 cap (va_up f xs.length (some v)))) a (tg, oObj 15 [J m, Rf b, J ((xs.length : Int) + 1)])) a (xs ++ [v]) b cap ∧ FrA a h (hset (hset h b (tb, oRef 4 cap (va_up f xs.length (some v)))) a (tg, oObj 15 [J m, Rf b, J ((xs.length : Int) + 1)])) := by
  have hl : (xs ++ [v]).length = xs.length + 1 := by simp
  refine ⟨⟨m, tg, _, tb, ?_, t0, (hset_ne (Ne.symm hne)).trans hset_at, Or.inr ⟨by omega, hD⟩, by omega, hc2, fun i => ?_⟩, fun q x hq hqa hq4 => ?_⟩
  · rw [hl]
    exact hset_at
  · show (if i = xs.length then some v else f i) = _
    split
    · rename_i e
      subst e
      simp
    · rw [hf]
      by_cases hi : i < xs.length
      · rw [List.getElem?_append_left hi]
      · rw [List.getElem?_eq_none (by omega), List.getElem?_eq_none (by omega)]
  · refine (hset_ne hqa).trans ((hset_ne ?_).trans hq)
    intro e
    rw [e, hB] at hq
    obtain rfl := Option.some.inj hq
    exact hq4 hD
theorem c_add2 {h : AH} {a v : Nat} {xs : List Nat} {b cap : Nat} {m : Int} {tg : Tg} {f : Nat → Option Nat} {tb : Tg} (hA : AL h a xs b cap) (hA1 : h.1 a = some (tg, oObj 15 [J m, Rf b, J xs.length])) (hB : h.1 b = some (tb, oRef 4 cap f)) (hv : El h v) (hva : v ≠ a) (hx : ∀ x ∈ xs, El h x) (hS : Sd h) (hc : xs.length < 600000) :
    Call MJ2_add_2 7 [Rf a, Rf v, Rf b, J xs.length] h (Ret fun r h1 => r = none ∧ (∃ b', AL h1 a (xs ++ [v]) b' (acap xs.length cap)) ∧ FrA a h h1 ∧ h1.2.1 = h.2.1 + (if xs.length = cap then 1 else 0) ∧ h1.2.2.1 = h.2.2.1 + (if xs.length = cap then ncap cap else 0)) := by
  refine call_wf fun w => ?_
  obtain ⟨m', tg', f', tb', hA2, t0, hB2, hD, hc1, hc2, hf⟩ := id hA
  cases Option.some.inj (hA1.symm.trans hA2)
  cases Option.some.inj (hB.symm.trans hB2)
  obtain ⟨tv, ov, hv1, hv2, hv4⟩ := id hv
  have hne : a ≠ b := by
    intro e
    rw [e, hB] at hA1
    cases hA1
  refine call_of okJ2_add_2 (by decide +kernel) (Nat.le_of_ble_eq_true rfl) ?_
  refine e_run 2 2 rfl ?_
  refine e_alen rfl hB (by decide) (by omega) ?_
  refine e_icmpne 11 rfl rfl (by omega) (by omega) (fun c1 => ?_) (fun c1 => ?_)
  · have hlt : xs.length < cap := by omega
    have hD' : tb = (4, a) := by
      rcases hD with ⟨z, -⟩ | z
      · omega
      · exact z.2
    refine e_run 3 14 rfl ?_
    refine e_aast (E := "java/lang/Object") rfl hB rfl hv1 hv2 (by rw [hD']; exact (show (4 : Nat) ≠ 0 by decide)) (by omega) (by omega) (by omega) ?_
    have hA3 := (hset_ne (x := (tb, oRef 4 cap (va_up f (xs.length : Int).toNat (some v)))) hne).trans hA1
    refine e_run 4 19 rfl ?_
    refine e_putf fwJ2_48 rfl hA3 (by first | decide | omega) (Nat.le_of_ble_eq_true rfl) (pn_int _) ?_
    refine ex_return rfl rfl ?_
    obtain ⟨p1, p2⟩ := AL.push (v := v) hA1 t0 hB hD' hlt hc2 hf hne
    refine ⟨_, rfl, rfl, ⟨b, ?_⟩, p2, ?_, ?_⟩
    · rw [show acap xs.length cap = cap by unfold acap; rw [if_neg (by omega)]]
      exact p1
    · rw [if_neg (by omega)]
      rfl
    · rw [if_neg (by omega)]
      rfl
  · have heq : xs.length = cap := by omega
    refine e_run 1 7 rfl ?_
    refine e_iv0 (by decide) lkvJ2_129 rfl hA1 (Nat.le_of_ble_eq_true rfl) (c_grow hA hx hS heq (by omega)) fun r h2 w2 g2 hP => ?_
    obtain ⟨rfl, hA4, hF, hs1, hs2⟩ := hP
    obtain ⟨m5, tg5, f5, tb5, hA5, t5, hB5, hD5, hc5, hc6, hf5⟩ := hA4
    have hcap : cap + 1 ≤ ncap cap := by
      unfold ncap
      split <;> omega
    have hD6 : tb5 = (4, a) := by
      rcases hD5 with ⟨z, -⟩ | z
      · omega
      · exact z.2
    have hv6 := hF _ _ hv1 hva (fun e => hv4 (congrArg Prod.fst (show tv = (4, a) from e)))
    have hne5 : a ≠ h.2.1 := Nat.ne_of_lt (w _ _ hA1)
    refine e_run 4 14 rfl ?_
    refine e_aast (E := "java/lang/Object") rfl hB5 rfl hv6 hv2 (by rw [hD6]; exact (show (4 : Nat) ≠ 0 by decide)) (by omega) (by omega) (by omega) ?_
    have hA3 := (hset_ne (x := (tb5, oRef 4 (ncap cap) (va_up f5 (xs.length : Int).toNat (some v)))) hne5).trans hA5
    refine e_run 4 19 rfl ?_
    refine e_putf fwJ2_48 rfl hA3 (by first | decide | omega) (Nat.le_of_ble_eq_true rfl) (pn_int _) ?_
    refine ex_return rfl rfl ?_
    obtain ⟨p1, p2⟩ := AL.push (v := v) hA5 t5 hB5 hD6 (by omega) hc6 hf5 hne5
    refine ⟨_, rfl, rfl, ⟨h.2.1, ?_⟩, hF.tr p2, ?_, ?_⟩
    · rw [show acap xs.length cap = ncap cap by unfold acap; rw [if_pos heq]]
      exact p1
    · rw [if_pos heq]
      exact hs1
    · rw [if_pos heq]
      exact hs2
/-- list.add(x): true; the element lies behind the others; a full row has grown -/
theorem c_add {h : AH} {a v : Nat} {xs : List Nat} {b cap : Nat} (hA : AL h a xs b cap) (hv : El h v) (hva : v ≠ a) (hx : ∀ x ∈ xs, El h x ∧ x ≠ a) (hS : Sd h) (hc : xs.length < 600000) :
    Call MJ2_add 8 [Rf a, Rf v] h (Ret fun r h1 => r = some (J 1) ∧ (∃ b', AL h1 a (xs ++ [v]) b' (acap xs.length cap)) ∧ FrA a h h1 ∧ h1.2.1 = h.2.1 + (if xs.length = cap then 1 else 0) ∧ h1.2.2.1 = h.2.2.1 + (if xs.length = cap then ncap cap else 0)) := by
  obtain ⟨m, tg, f, tb, hA1, t0, hB, hD, hc1, hc2, hf⟩ := id hA
  have hne : b ≠ a := by
    intro e
    rw [e, hA1] at hB
    cases hB
  refine call_of okJ2_add (by decide +kernel) (Nat.le_of_ble_eq_true rfl) ?_
  have hA2 : (hset h a (tg, oObj 15 [J (m + 1), Rf b, J xs.length])).1 a = _ := hset_at
  have hB2 := (hset_ne (x := (tg, oObj 15 [J (m + 1), Rf b, J xs.length])) hne).trans hB
  have hAL : AL (hset h a (tg, oObj 15 [J (m + 1), Rf b, J xs.length])) a xs b cap := ⟨_, tg, f, tb, hA2, t0, hB2, hD, hc1, hc2, hf⟩
  have hF : FrA a h (hset h a (tg, oObj 15 [J (m + 1), Rf b, J xs.length])) := fun q x hq hqa _ => (hset_ne hqa).trans hq
  refine e_run 2 2 rfl ?_
  refine e_getf fwJ2_63 rfl hA1 rfl ?_
  refine e_run 2 7 rfl ?_
  refine e_putf fwJ2_63 rfl hA1 (by first | decide | omega) (Nat.le_of_ble_eq_true rfl) (pn_int _) ?_
  refine e_run 3 13 rfl ?_
  refine e_getf fwJ2_9 rfl hA2 rfl ?_
  refine e_run 1 17 rfl ?_
  refine e_getf fwJ2_48 rfl hA2 rfl ?_
  refine e_iv3 (by decide) lkvJ2_131 rfl hA2 (Nat.le_of_ble_eq_true rfl) (c_add2 hAL hA2 hB2 (hv.kp hF hva) hva (fun x hx1 => (hx x hx1).1.kp hF (hx x hx1).2) (hS.kp (Grow.rf h) (hF.k0 hA.own)) hc) fun r h2 w2 g2 hP => ?_
  obtain ⟨rfl, hA4, hF4, hs1, hs2⟩ := hP
  refine e_run 1 24 rfl ?_
  refine ex_ireturn rfl ⟨_, rfl, rfl⟩ ?_
  exact ⟨_, rfl, rfl, hA4, hF.tr hF4, hs1, hs2⟩
