/-! JDK, tenth: LinkedList.get and the search of a node -/
theorem node_f {h : AH} {a k : Nat} {xs ns : List Nat} (hA : LL h a xs ns) (hk : k < xs.length) (j : Nat) : ∀ (i x : Nat) (l : Lc), i + j = k → ns[i]? = some x → LSub l [(3, J i), (2, Rf x), (0, Rf a), (1, J k)] → Ex MJ5_node 1 17 l [] h (Ret fun v h1 => (∃ y, v = some (Rf y) ∧ ns[k]? = some y) ∧ h1 = h) := by
  obtain ⟨tg, m, hA1, t0, l1, l2, nd, hn⟩ := hA
  induction j with
  | zero =>
    intro i x l hi hx hl
    refine ex_loc _ hl ?_
    refine e_run 2 19 rfl ?_
    refine e_icmpge 33 rfl rfl (by omega) (by omega) (fun c1 => ?_) (fun c1 => ?_)
    · refine e_run 1 34 rfl ?_
      refine ex_areturn rfl ⟨_, rfl, by first | exact Or.inl ⟨_, rfl⟩ | exact Or.inr ⟨_, rfl⟩⟩ ?_
      exact ⟨_, rfl, ⟨x, rfl, by rw [← hi]; exact hx⟩, rfl⟩
    · omega
  | succ j ih =>
    intro i x l hi hx hl
    refine ex_loc _ hl ?_
    obtain ⟨v, hv, hB⟩ := hn i x hx
    obtain ⟨y, hy⟩ : ∃ y, ns[i + 1]? = some y := ⟨_, List.getElem?_eq_getElem (by omega)⟩
    rw [hy] at hB
    refine e_run 2 19 rfl ?_
    refine e_icmpge 33 rfl rfl (by omega) (by omega) (fun c1 => ?_) (fun c1 => ?_)
    · omega
    refine e_run 1 23 rfl ?_
    refine e_getf fwJ5_36 rfl hB rfl ?_
    refine e_run 3 17 rfl ?_
    exact ih (i + 1) y _ (by omega) hy ⟨rfl, rfl, rfl, rfl, trivial⟩
theorem node_b {h : AH} {a k : Nat} {xs ns : List Nat} (hA : LL h a xs ns) (hk : k < xs.length) (j : Nat) : ∀ (i x : Nat) (l : Lc), k + j = i → ns[i]? = some x → LSub l [(3, J i), (2, Rf x), (0, Rf a), (1, J k)] → Ex MJ5_node 1 47 l [] h (Ret fun v h1 => (∃ y, v = some (Rf y) ∧ ns[k]? = some y) ∧ h1 = h) := by
  obtain ⟨tg, m, hA1, t0, l1, l2, nd, hn⟩ := hA
  have lt : ∀ i x, ns[i]? = some x → i < ns.length := fun i x hx => (List.getElem?_eq_some_iff.mp hx).1
  induction j with
  | zero =>
    intro i x l hi hx hl
    have := lt i x hx
    refine ex_loc _ hl ?_
    refine e_run 2 49 rfl ?_
    refine e_icmple 63 rfl rfl (by omega) (by omega) (fun c1 => ?_) (fun c1 => ?_)
    · refine e_run 1 64 rfl ?_
      refine ex_areturn rfl ⟨_, rfl, by first | exact Or.inl ⟨_, rfl⟩ | exact Or.inr ⟨_, rfl⟩⟩ ?_
      exact ⟨_, rfl, ⟨x, rfl, by rw [show k = i by omega]; exact hx⟩, rfl⟩
    · omega
  | succ j ih =>
    intro i x l hi hx hl
    have := lt i x hx
    refine ex_loc _ hl ?_
    obtain ⟨v, hv, hB⟩ := hn i x hx
    obtain ⟨y, hy⟩ : ∃ y, ns[i - 1]? = some y := ⟨_, List.getElem?_eq_getElem (by omega)⟩
    rw [if_neg (by omega), hy] at hB
    refine e_run 2 49 rfl ?_
    refine e_icmple 63 rfl rfl (by omega) (by omega) (fun c1 => ?_) (fun c1 => ?_)
    · omega
    refine e_run 1 53 rfl ?_
    refine e_getf fwJ5_30 rfl hB rfl ?_
    refine e_run 3 47 rfl ?_
    refine ih (i - 1) y _ (by omega) hy ⟨?_, rfl, rfl, rfl, trivial⟩
    show some (J ((i : Int) + -1)) = some (J ((i - 1 : Nat) : Int))
    congr 2
    omega
theorem c_llNode {h : AH} {a k : Nat} {xs ns : List Nat} (hA : LL h a xs ns) (hk : k < xs.length) : Call MJ5_node 1 [Rf a, J k] h (Ret fun v h1 => (∃ y, v = some (Rf y) ∧ ns[k]? = some y) ∧ h1 = h) := by
  obtain ⟨tg, m, hA1, t0, l1, l2, nd, hn⟩ := id hA
  refine call_of okJ5_node (by decide +kernel) (Nat.le_of_ble_eq_true rfl) ?_
  refine e_run 2 2 rfl ?_
  refine e_getf fwJ5_7 rfl hA1 rfl ?_
  refine e_run 1 6 rfl ?_
  refine e_ishr (k := 1) rfl (by omega) (by omega) ?_
  refine e_icmpge 35 rfl rfl (by omega) (by omega) (fun c1 => ?_) (fun c1 => ?_)
  · obtain ⟨y, hy⟩ : ∃ y, ns[ns.length - 1]? = some y := ⟨_, List.getElem?_eq_getElem (by omega)⟩
    have hgl : ns.getLast? = some y := by rw [List.getLast?_eq_getElem?]; exact hy
    rw [hgl] at hA1
    refine e_run 1 36 rfl ?_
    refine e_getf fwJ5_27 rfl hA1 rfl ?_
    refine e_run 2 41 rfl ?_
    refine e_getf fwJ5_7 rfl hA1 rfl ?_
    refine e_run 3 47 rfl ?_
    refine node_b hA hk (ns.length - 1 - k) (ns.length - 1) y _ (by omega) hy ⟨?_, rfl, rfl, rfl, trivial⟩
    show some (J ((xs.length : Int) - 1)) = some (J ((ns.length - 1 : Nat) : Int))
    congr 2
    omega
  · obtain ⟨y, hy⟩ : ∃ y, ns[0]? = some y := ⟨_, List.getElem?_eq_getElem (by omega)⟩
    have hgl : ns.head? = some y := by rw [List.head?_eq_getElem?]; exact hy
    rw [hgl] at hA1
    refine e_run 1 11 rfl ?_
    refine e_getf fwJ5_18 rfl hA1 rfl ?_
    refine e_run 3 17 rfl ?_
    exact node_f hA hk k 0 y _ (by omega) hy ⟨rfl, rfl, rfl, rfl, trivial⟩
theorem c_llIsEl {h : AH} {a k : Nat} {xs ns : List Nat} (hA : LL h a xs ns) (hk : k < xs.length) : Call MJ5_isElementIndex 1 [Rf a, J k] h (Ret fun v h1 => v = some (J 1) ∧ h1 = h) := by
  obtain ⟨tg, m, hA1, t0, l1, l2, nd, hn⟩ := id hA
  refine call_of okJ5_isElementIndex (by decide +kernel) (Nat.le_of_ble_eq_true rfl) ?_
  refine e_run 1 1 rfl ?_
  refine e_iflt 16 rfl rfl (by omega) (fun c1 => ?_) (fun c1 => ?_)
  · omega
  refine e_run 2 6 rfl ?_
  refine e_getf fwJ5_7 rfl hA1 rfl ?_
  refine e_icmpge 16 rfl rfl (by omega) (by omega) (fun c2 => ?_) (fun c2 => ?_)
  · omega
  refine e_run 2 17 rfl ?_
  refine ex_ireturn rfl ⟨_, rfl, rfl⟩ ?_
  exact ⟨_, rfl, rfl, rfl⟩
theorem c_llChkEl {h : AH} {a k : Nat} {xs ns : List Nat} (hA : LL h a xs ns) (hk : k < xs.length) : Call MJ5_checkElementIndex 2 [Rf a, J k] h (Ret fun v h1 => v = none ∧ h1 = h) := by
  obtain ⟨tg, m, hA1, t0, l1, l2, nd, hn⟩ := id hA
  refine call_of okJ5_checkElementIndex (by decide +kernel) (Nat.le_of_ble_eq_true rfl) ?_
  refine e_run 2 2 rfl ?_
  refine e_iv1 (by decide) lkvJ5_115 rfl hA1 (Nat.le_of_ble_eq_true rfl) (c_llIsEl hA hk) fun v h2 w2 g2 hP => ?_
  obtain ⟨rfl, rfl⟩ := hP
  refine e_ifne 21 rfl rfl (by omega) (fun c1 => ?_) (fun c1 => ?_)
  · refine ex_return rfl rfl ?_
    exact ⟨_, rfl, rfl, rfl⟩
  · omega
/-- list.get(k) -/
theorem c_llGet {h : AH} {a k : Nat} {xs ns : List Nat} (hA : LL h a xs ns) (hk : k < xs.length) : Call MJ5_get 3 [Rf a, J k] h (Ret fun v h1 => v = some (Rf xs[k]) ∧ h1 = h) := by
  obtain ⟨tg, m, hA1, t0, l1, l2, nd, hn⟩ := id hA
  refine call_of okJ5_get (by decide +kernel) (Nat.le_of_ble_eq_true rfl) ?_
  refine e_run 2 2 rfl ?_
  refine e_iv1 (by decide) lkvJ5_90 rfl hA1 (Nat.le_of_ble_eq_true rfl) (c_llChkEl hA hk) fun v h2 w2 g2 hP => ?_
  obtain ⟨rfl, rfl⟩ := hP
  refine e_run 2 7 rfl ?_
  refine e_iv1 (by decide) lkvJ5_86 rfl hA1 (Nat.le_of_ble_eq_true rfl) (c_llNode hA hk) fun v h2 w2 g2 hP => ?_
  obtain ⟨⟨y, rfl, hy⟩, rfl⟩ := hP
  obtain ⟨v, hv, hB⟩ := hn k y hy
  refine e_getf fwJ5_39 rfl hB rfl ?_
  refine ex_areturn rfl ⟨_, rfl, by first | exact Or.inl ⟨_, rfl⟩ | exact Or.inr ⟨_, rfl⟩⟩ ?_
  refine ⟨_, rfl, ?_, rfl⟩
  rw [List.getElem?_eq_getElem hk] at hv
  rw [Option.some.inj hv]
