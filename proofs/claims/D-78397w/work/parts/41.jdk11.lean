/-! JDK, eleventh: LinkedList.clear; the position's check; the list iterator's making -/
def ClrP (a : Nat) (h : AH) : AO → AH → Prop := Ret fun v h1 => v = none ∧ LL h1 a [] [] ∧ FrA a h h1 ∧ h1.2.1 = h.2.1 ∧ h1.2.2.1 = h.2.2.1
theorem llclear_loop {h : AH} {a : Nat} {xs ns : List Nat} (hA : LL h a xs ns) (j : Nat) : ∀ (i : Nat) (h' : AH) (l : Lc), i + j = ns.length → (∀ q, q ∉ ns → h'.1 q = h.1 q) → h'.2 = h.2 → (∀ k x, i ≤ k → ns[k]? = some x → h'.1 x = h.1 x) → LSub l [(1, Ro ns[i]?), (0, Rf a)] → Ex MJ5_clear 1 5 l [] h' (ClrP a h) := by
  obtain ⟨tg, m, hA1, t0, l1, l2, nd, hn⟩ := hA
  have han : a ∉ ns := by
    intro e
    obtain ⟨k, hk⟩ := List.getElem?_of_mem e
    obtain ⟨v, -, hB⟩ := hn k a hk
    rw [hA1] at hB
    cases hB
  induction j with
  | zero =>
    intro i h' l hi k1 k2 k3 hl
    refine ex_loc _ hl ?_
    have hA2 : h'.1 a = some (tg, oObj 17 [J m, J xs.length, Ro ns.head?, Ro ns.getLast?]) := (k1 a han).trans hA1
    refine e_run 1 6 rfl ?_
    refine e_ifnull 34 rfl rfl (fun c1 => ?_) (fun ac1 c1 => ?_)
    · refine e_run 4 38 rfl ?_
      refine e_putf fwJ5_27 rfl hA2 (by first | decide | omega) (Nat.le_of_ble_eq_true rfl) (pn_obj _ _) ?_
      refine e_putf fwJ5_18 rfl hset_at (by first | decide | omega) (Nat.le_of_ble_eq_true rfl) (pn_obj _ _) ?_
      refine e_run 2 46 rfl ?_
      refine e_putf fwJ5_7 rfl hset_at (by first | decide | omega) (Nat.le_of_ble_eq_true rfl) (pn_int _) ?_
      refine e_run 2 51 rfl ?_
      refine e_getf fwJ5_33 rfl hset_at rfl ?_
      refine e_run 2 56 rfl ?_
      refine e_putf fwJ5_33 rfl hset_at (by first | decide | omega) (Nat.le_of_ble_eq_true rfl) (pn_int _) ?_
      refine ex_return rfl rfl ?_
      rw [hset_hset, hset_hset, hset_hset]
      refine ⟨_, rfl, rfl, ⟨tg, m + 1, hset_at, t0, rfl, Nat.zero_le _, List.nodup_nil, fun k x hx => by cases hx⟩, fun q x hq hqa hq4 => ?_, ?_, ?_⟩
      · rw [hset_ne hqa, k1 q ?_]
        · exact hq
        · intro e
          obtain ⟨k, hk⟩ := List.getElem?_of_mem e
          obtain ⟨v, -, hB⟩ := hn k q hk
          rw [hq] at hB
          obtain rfl := Option.some.inj hB
          exact hq4 rfl
      · show h'.2.1 = h.2.1
        rw [k2]
      · show h'.2.2.1 = h.2.2.1
        rw [k2]
    · rw [List.getElem?_eq_none (by omega)] at c1
      cases c1
  | succ j ih =>
    intro i h' l hi k1 k2 k3 hl
    refine ex_loc _ hl ?_
    obtain ⟨x, hx⟩ : ∃ x, ns[i]? = some x := ⟨_, List.getElem?_eq_getElem (by omega)⟩
    obtain ⟨v, hv, hB⟩ := hn i x hx
    have hB2 : h'.1 x = _ := (k3 i x (Nat.le_refl _) hx).trans hB
    have hxn := List.mem_of_getElem? hx
    rw [hx]
    refine e_run 1 6 rfl ?_
    refine e_ifnull 34 rfl rfl (fun c1 => ?_) (fun ac1 c1 => ?_)
    · cases c1
    refine e_run 1 10 rfl ?_
    refine e_getf fwJ5_36 rfl hB2 rfl ?_
    refine e_run 1 14 rfl ?_
    refine e_run 2 16 rfl ?_
    refine e_putf fwJ5_39 rfl hB2 (show (4 : Nat) ≠ 0 by decide) (Nat.le_of_ble_eq_true rfl) (pn_obj _ _) ?_
    refine e_run 2 21 rfl ?_
    refine e_putf fwJ5_36 rfl hset_at (show (4 : Nat) ≠ 0 by decide) (Nat.le_of_ble_eq_true rfl) (pn_obj _ _) ?_
    refine e_run 2 26 rfl ?_
    refine e_putf fwJ5_30 rfl hset_at (show (4 : Nat) ≠ 0 by decide) (Nat.le_of_ble_eq_true rfl) (pn_obj _ _) ?_
    refine e_run 3 5 rfl ?_
    rw [hset_hset, hset_hset]
    refine ih (i + 1) _ _ (by omega) (fun q hq => ?_) k2 (fun k y hk hy => ?_) ⟨rfl, rfl, trivial⟩
    · rw [hset_ne (fun e => hq (by rw [e]; exact hxn))]
      exact k1 q hq
    · have hyx : y ≠ x := by
        intro e
        subst e
        have := (List.getElem?_inj (by omega) nd).mp (hx.trans hy.symm)
        omega
      rw [hset_ne hyx]
      exact k3 k y (by omega) hy
/-- list.clear() -/
theorem c_llClear {h : AH} {a : Nat} {xs ns : List Nat} (hA : LL h a xs ns) : Call MJ5_clear 1 [Rf a] h (ClrP a h) := by
  obtain ⟨tg, m, hA1, -⟩ := id hA
  refine call_of okJ5_clear (by decide +kernel) (Nat.le_of_ble_eq_true rfl) ?_
  refine e_run 1 1 rfl ?_
  refine e_getf fwJ5_18 rfl hA1 rfl ?_
  refine e_run 1 5 rfl ?_
  exact llclear_loop hA ns.length 0 h _ (by omega) (fun _ _ => rfl) rfl (fun _ _ _ _ => rfl) ⟨by rw [List.head?_eq_getElem?]; rfl, rfl, trivial⟩
theorem c_llIsPos {h : AH} {a k : Nat} {xs ns : List Nat} (hA : LL h a xs ns) (hk : k ≤ xs.length) : Call MJ5_isPositionIndex 1 [Rf a, J k] h (Ret fun v h1 => v = some (J 1) ∧ h1 = h) := by
  obtain ⟨tg, m, hA1, t0, l1, l2, nd, hn⟩ := id hA
  refine call_of okJ5_isPositionIndex (by decide +kernel) (Nat.le_of_ble_eq_true rfl) ?_
  refine e_run 1 1 rfl ?_
  refine e_iflt 16 rfl rfl (by omega) (fun c1 => ?_) (fun c1 => ?_)
  · omega
  refine e_run 2 6 rfl ?_
  refine e_getf fwJ5_7 rfl hA1 rfl ?_
  refine e_icmpgt 16 rfl rfl (by omega) (by omega) (fun c2 => ?_) (fun c2 => ?_)
  · omega
  refine e_run 2 17 rfl ?_
  refine ex_ireturn rfl ⟨_, rfl, rfl⟩ ?_
  exact ⟨_, rfl, rfl, rfl⟩
theorem c_llChkPos {h : AH} {a k : Nat} {xs ns : List Nat} (hA : LL h a xs ns) (hk : k ≤ xs.length) : Call MJ5_checkPositionIndex 2 [Rf a, J k] h (Ret fun v h1 => v = none ∧ h1 = h) := by
  obtain ⟨tg, m, hA1, t0, l1, l2, nd, hn⟩ := id hA
  refine call_of okJ5_checkPositionIndex (by decide +kernel) (Nat.le_of_ble_eq_true rfl) ?_
  refine e_run 2 2 rfl ?_
  refine e_iv1 (by decide) lkvJ5_128 rfl hA1 (Nat.le_of_ble_eq_true rfl) (c_llIsPos hA hk) fun v h2 w2 g2 hP => ?_
  obtain ⟨rfl, rfl⟩ := hP
  refine e_ifne 21 rfl rfl (by omega) (fun c1 => ?_) (fun c1 => ?_)
  · refine ex_return rfl rfl ?_
    exact ⟨_, rfl, rfl, rfl⟩
  · omega
