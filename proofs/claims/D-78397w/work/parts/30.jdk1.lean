/-! JDK, first: Math, Objects.checkIndex, ArrayList's small methods -/
set_option maxRecDepth 20000
theorem c_max {a b : Int} {h : AH} (ha : I32 a) (hb : I32 b) : Call MJ13_max 1 [J a, J b] h (Ret fun v h1 => v = some (J (max a b)) ∧ h1 = h) := by
  refine call_of okJ13_max (by decide +kernel) (Nat.le_of_ble_eq_true rfl) ?_
  refine e_run 2 2 rfl ?_
  refine e_icmplt 9 rfl rfl (by omega) (by omega) (fun c1 => ?_) (fun c1 => ?_)
  · refine e_run 1 10 rfl ?_
    refine ex_ireturn rfl ⟨_, rfl, rfl⟩ ?_
    exact ⟨_, rfl, by rw [Int.max_def, if_pos (by omega)], rfl⟩
  · refine e_run 2 10 rfl ?_
    refine ex_ireturn rfl ⟨_, rfl, rfl⟩ ?_
    exact ⟨_, rfl, by rw [Int.max_def]; split <;> first | rfl | (congr 2; omega), rfl⟩
theorem c_min {a b : Int} {h : AH} (ha : I32 a) (hb : I32 b) : Call MJ13_min 1 [J a, J b] h (Ret fun v h1 => v = some (J (min a b)) ∧ h1 = h) := by
  refine call_of okJ13_min (by decide +kernel) (Nat.le_of_ble_eq_true rfl) ?_
  refine e_run 2 2 rfl ?_
  refine e_icmpgt 9 rfl rfl (by omega) (by omega) (fun c1 => ?_) (fun c1 => ?_)
  · refine e_run 1 10 rfl ?_
    refine ex_ireturn rfl ⟨_, rfl, rfl⟩ ?_
    exact ⟨_, rfl, by rw [Int.min_def]; split <;> first | rfl | (congr 2; omega), rfl⟩
  · refine e_run 2 10 rfl ?_
    refine ex_ireturn rfl ⟨_, rfl, rfl⟩ ?_
    exact ⟨_, rfl, by rw [Int.min_def, if_pos (by omega)], rfl⟩
theorem c_maxl {a b : Int} {h : AH} (ha : I64 a) (hb : I64 b) : Call MJ13_max_2 1 [G a, G b] h (Ret fun v h1 => v = some (G (max a b)) ∧ h1 = h) := by
  refine call_of okJ13_max_2 (by decide +kernel) (Nat.le_of_ble_eq_true rfl) ?_
  refine e_run 2 2 rfl ?_
  refine e_lcmplt 10 rfl rfl rfl (by omega) (by omega) (fun c1 => ?_) (fun c1 => ?_)
  · refine e_run 1 11 rfl ?_
    refine ex_lreturn rfl rfl ?_
    exact ⟨_, rfl, by rw [Int.max_def]; split <;> first | rfl | (congr 3; omega), rfl⟩
  · refine e_run 2 11 rfl ?_
    refine ex_lreturn rfl rfl ?_
    exact ⟨_, rfl, by rw [Int.max_def]; split <;> first | rfl | (congr 3; omega), rfl⟩
theorem c_minl {a b : Int} {h : AH} (ha : I64 a) (hb : I64 b) : Call MJ13_min_2 1 [G a, G b] h (Ret fun v h1 => v = some (G (min a b)) ∧ h1 = h) := by
  refine call_of okJ13_min_2 (by decide +kernel) (Nat.le_of_ble_eq_true rfl) ?_
  refine e_run 2 2 rfl ?_
  refine e_lcmpgt 10 rfl rfl rfl (by omega) (by omega) (fun c1 => ?_) (fun c1 => ?_)
  · refine e_run 1 11 rfl ?_
    refine ex_lreturn rfl rfl ?_
    exact ⟨_, rfl, by rw [Int.min_def]; split <;> first | rfl | (congr 3; omega), rfl⟩
  · refine e_run 2 11 rfl ?_
    refine ex_lreturn rfl rfl ?_
    exact ⟨_, rfl, by rw [Int.min_def]; split <;> first | rfl | (congr 3; omega), rfl⟩
theorem c_pcheck {i n : Int} {h : AH} {r : Option Nat} (h0 : 0 ≤ i) (h1 : i < n) (hn : I32 n) : Call MJ16_checkIndex 1 [J i, J n, Ro r] h (Ret fun v h1 => v = some (J i) ∧ h1 = h) := by
  refine call_of okJ16_checkIndex (by decide +kernel) (Nat.le_of_ble_eq_true rfl) ?_
  refine e_run 1 1 rfl ?_
  refine e_iflt 9 rfl rfl (by omega) (fun c1 => ?_) (fun c1 => ?_)
  · omega
  refine e_run 2 6 rfl ?_
  refine e_icmplt 16 rfl rfl (by omega) (by omega) (fun c2 => ?_) (fun c2 => ?_)
  · refine e_run 1 17 rfl ?_
    refine ex_ireturn rfl ⟨_, rfl, rfl⟩ ?_
    exact ⟨_, rfl, rfl, rfl⟩
  · omega
theorem c_check {i n : Int} {h : AH} (h0 : 0 ≤ i) (h1 : i < n) (hn : I32 n) : Call MJ15_checkIndex 2 [J i, J n] h (Ret fun v h1 => v = some (J i) ∧ h1 = h) := by
  refine call_of okJ15_checkIndex (by decide +kernel) (Nat.le_of_ble_eq_true rfl) ?_
  refine e_run 3 3 rfl ?_
  refine e_is3 (by decide) lksJ15_105 rfl (Nat.le_of_ble_eq_true rfl) (c_pcheck h0 h1 hn) fun v h2 w2 g2 hP => ?_
  obtain ⟨rfl, rfl⟩ := hP
  refine ex_ireturn rfl ⟨_, rfl, rfl⟩ ?_
  exact ⟨_, rfl, rfl, rfl⟩
/-- an ArrayList at a: its elements, its row's address and length -/
def AL (h : AH) (a : Nat) (xs : List Nat) (b cap : Nat) : Prop := ∃ (m : Int) (tg : Tg) (f : Nat → Option Nat) (tb : Tg), h.1 a = some (tg, oObj 15 [J m, Rf b, J xs.length]) ∧ tg.1 = 3 ∧ h.1 b = some (tb, oRef 4 cap f) ∧ ((cap = 0 ∧ h.2.2.2 0 = Rf b ∧ tb.1 = 0) ∨ (1 ≤ cap ∧ tb = (4, a))) ∧ xs.length ≤ cap ∧ cap ≤ 1000000 ∧ ∀ i, f i = xs[i]?
theorem c_size {h : AH} {a : Nat} {xs : List Nat} {b cap : Nat} (hA : AL h a xs b cap) : Call MJ2_size 1 [Rf a] h (Ret fun v h1 => v = some (J xs.length) ∧ h1 = h) := by
  obtain ⟨m, tg, f, tb, hA, t0, -⟩ := hA
  refine call_of okJ2_size (by decide +kernel) (Nat.le_of_ble_eq_true rfl) ?_
  refine e_run 1 1 rfl ?_
  refine e_getf fwJ2_48 rfl hA rfl ?_
  refine ex_ireturn rfl ⟨_, rfl, rfl⟩ ?_
  exact ⟨_, rfl, rfl, rfl⟩
theorem c_isEmpty {h : AH} {a : Nat} {xs : List Nat} {b cap : Nat} (hA : AL h a xs b cap) : Call MJ2_isEmpty 1 [Rf a] h (Ret fun v h1 => v = some (J (if xs = [] then 1 else 0)) ∧ h1 = h) := by
  obtain ⟨m, tg, f, tb, hA, t0, hB, -, hc, hc2, -⟩ := hA
  refine call_of okJ2_isEmpty (by decide +kernel) (Nat.le_of_ble_eq_true rfl) ?_
  refine e_run 1 1 rfl ?_
  refine e_getf fwJ2_48 rfl hA rfl ?_
  refine e_ifne 11 rfl rfl (by omega) (fun c1 => ?_) (fun c1 => ?_)
  · refine e_run 1 12 rfl ?_
    refine ex_ireturn rfl ⟨_, rfl, rfl⟩ ?_
    refine ⟨_, rfl, ?_, rfl⟩
    rw [if_neg]
    intro e
    rw [e] at c1
    exact c1 rfl
  · refine e_run 2 12 rfl ?_
    refine ex_ireturn rfl ⟨_, rfl, rfl⟩ ?_
    refine ⟨_, rfl, ?_, rfl⟩
    rw [if_pos]
    exact List.length_eq_zero_iff.mp (by omega)
theorem c_elementData {h : AH} {a i : Nat} {xs : List Nat} {b cap : Nat} (hA : AL h a xs b cap) (hi : i < xs.length) : Call MJ2_elementData 1 [Rf a, J i] h (Ret fun v h1 => v = some (Rf xs[i]) ∧ h1 = h) := by
  obtain ⟨m, tg, f, tb, hA, t0, hB, -, hc, hc2, hf⟩ := hA
  refine call_of okJ2_elementData (by decide +kernel) (Nat.le_of_ble_eq_true rfl) ?_
  refine e_run 1 1 rfl ?_
  refine e_getf fwJ2_9 rfl hA rfl ?_
  refine e_run 1 5 rfl ?_
  refine e_aald rfl hB ⟨_, rfl, rfl⟩ (by omega) (by omega) (by omega) ?_
  refine ex_areturn rfl ⟨_, rfl, Or.inl ⟨_, rfl⟩⟩ ?_
  refine ⟨_, rfl, ?_, rfl⟩
  rw [hf, Int.toNat_natCast, List.getElem?_eq_getElem hi]
theorem c_get {h : AH} {a i : Nat} {xs : List Nat} {b cap : Nat} (hA : AL h a xs b cap) (hi : i < xs.length) : Call MJ2_get 3 [Rf a, J i] h (Ret fun v h1 => v = some (Rf xs[i]) ∧ h1 = h) := by
  obtain ⟨m, tg, f, tb, hA', t0, hB, -, hc, hc2, hf⟩ := id hA
  refine call_of okJ2_get (by decide +kernel) (Nat.le_of_ble_eq_true rfl) ?_
  refine e_run 2 2 rfl ?_
  refine e_getf fwJ2_48 rfl hA' rfl ?_
  refine e_is2 (by decide) lksJ2_118 rfl (Nat.le_of_ble_eq_true rfl) (c_check (by omega) (by omega) (by omega)) fun v h2 w2 g2 hP => ?_
  obtain ⟨rfl, rfl⟩ := hP
  refine e_run 3 11 rfl ?_
  refine e_iv1 (by decide) lkvJ2_123 rfl hA' (Nat.le_of_ble_eq_true rfl) (c_elementData hA hi) fun v h2 w2 g2 hP => ?_
  obtain ⟨rfl, rfl⟩ := hP
  refine ex_areturn rfl ⟨_, rfl, Or.inl ⟨_, rfl⟩⟩ ?_
  exact ⟨_, rfl, rfl, rfl⟩
