/-! Component: emptied(draft) -/
theorem emptied_loop {h0 : AH} {a it : Nat} {tg tg2 : Tg} (hia : it ≠ a) (hlt : h0.2.1 ≤ it) (xs : List Nat) : ∀ (ns : List Nat) (m : Int) (c : Nat) (h : AH) (l : Lc), c + xs.length ≤ 1000 → LLm h a xs ns tg m → It h it a none ns.head? 0 m tg2 → LSub l [(2, Rf it), (1, J c), (0, Rf a)] → (∀ q y, h0.1 q = some y → q ≠ a → y.1 ≠ (4, a) → h.1 q = some y) → (∀ q y, h0.1 q = some y → q < h0.2.1) →
    Ex MX0_emptied 6 9 l [] h (Ret fun v h1 => v = some (J ((c + xs.length : Nat) : Int)) ∧ LL h1 a [] [] ∧ FrA a h0 h1 ∧ h1.2 = h.2) := by
  induction xs with
  | nil =>
    intro ns m c h l hc hA hI hl hF w0
    refine ex_loc _ hl ?_
    have hns : ns = [] := List.length_eq_zero_iff.mp hA.2.2.1
    subst hns
    refine e_run 1 10 rfl ?_
    refine e_if0 (by decide) lkfX0_303_J26 rfl hI.1 (Nat.le_of_ble_eq_true rfl) (c_itHas hA hI) fun v h2 w2 g2 hP => ?_
    obtain ⟨rfl, rfl⟩ := hP
    rw [if_pos rfl]
    refine e_ifeq 37 rfl rfl (by omega) (fun c1 => ?_) (fun c1 => ?_)
    · refine e_run 1 38 rfl ?_
      refine ex_ireturn rfl ⟨_, rfl, rfl⟩ ?_
      exact ⟨_, rfl, rfl, ⟨tg, m, hA⟩, hF, rfl⟩
    · exact absurd rfl c1
  | cons v xs ih =>
    intro ns m c h l hc hA hI hl hF w0
    refine ex_loc _ hl ?_
    simp only [List.length_cons] at hc
    obtain ⟨x, t, rfl⟩ : ∃ x t, ns = x :: t := by
      cases ns with
      | nil => exact absurd hA.2.2.1 (by simp)
      | cons x t => exact ⟨x, t, rfl⟩
    refine e_run 1 10 rfl ?_
    refine e_if0 (by decide) lkfX0_303_J26 rfl hI.1 (Nat.le_of_ble_eq_true rfl) (c_itHas hA hI) fun r h2 w2 g2 hP => ?_
    obtain ⟨rfl, rfl⟩ := hP
    rw [if_neg (List.cons_ne_nil v xs)]
    refine e_ifeq 37 rfl rfl (by omega) (fun c1 => ?_) (fun c1 => ?_)
    · omega
    refine e_run 1 19 rfl ?_
    refine e_if0 (by decide) lkfX0_309_J26 rfl hI.1 (Nat.le_of_ble_eq_true rfl) (c_itNext hA hI) fun r h3 w3 g3 hP => ?_
    obtain ⟨rfl, rfl⟩ := hP
    have hne : ∀ y : Tg × Obj, LLm (hset h2 it y) a (v :: xs) (x :: t) tg m := fun y => by
      obtain ⟨b1, b2, b3, b4, b5, b6⟩ := hA
      refine ⟨(hset_ne (Ne.symm hia)).trans b1, b2, b3, b4, b5, fun k z hz => ?_⟩
      obtain ⟨u, hu, hD⟩ := b6 k z hz
      refine ⟨u, hu, (hset_ne ?_).trans hD⟩
      intro e
      rw [e, hI.1] at hD
      cases hD
    have hI2 : It (hset h2 it (tg2, oObj 21 [Rf x, Ro t.head?, J 1, J m, Rf a])) it a (some x) t.head? 1 m tg2 := ⟨hset_at, hI.2⟩
    refine e_run 2 26 rfl ?_
    refine e_if0 (by decide) lkfX0_312_J26 rfl hI2.1 (Nat.le_of_ble_eq_true rfl) (c_itRemove (hne _) hI2) fun r h4 w4 g4 hP => ?_
    obtain ⟨rfl, hA4, hI4, hF4, hs4⟩ := hP
    refine e_run 2 9 rfl ?_
    refine ex_post (ih t (m + 1) (c + 1) h4 _ (by omega) hA4 hI4 ⟨rfl, rfl, rfl, trivial⟩ (fun q y hq hqa hq4 => ?_) w0) fun o h5 w5 g5 hq => ?_
    · have hqi : q ≠ it := Nat.ne_of_lt (Nat.lt_of_lt_of_le (w0 q y hq) hlt)
      exact hF4 q y ((hset_ne hqi).trans (hF q y hq hqa hq4)) hqa hqi hq4
    · obtain ⟨r, rfl, rfl, k1, k2, k3⟩ := hq
      refine ⟨_, rfl, ?_, k1, k2, k3.trans hs4⟩
      simp only [List.length_cons]
      congr 2
      omega
/-- emptied(draft): how many there were; the draft is empty -/
theorem c_emptied {h : AH} {a : Nat} {xs ns : List Nat} (hA : LL h a xs ns) : Call MX0_emptied 6 [Rf a] h (Ret fun v h1 => v = some (J xs.length) ∧ LL h1 a [] [] ∧ FrA a h h1 ∧ h1.2.1 = h.2.1 + 1 ∧ h1.2.2.1 = h.2.2.1 + 5) := by
  refine call_wf fun w => ?_
  obtain ⟨tg, m, hA⟩ := hA
  have hA' : LLm h a xs ns tg m := hA
  obtain ⟨hA1, t0, l1, l2, nd, hn⟩ := id hA'
  refine call_of okX0_emptied (by decide +kernel) (Nat.le_of_ble_eq_true rfl) ?_
  refine e_run 3 3 rfl ?_
  refine e_if0 (by decide) lkfX0_299_J5 rfl hA1 (Nat.le_of_ble_eq_true rfl) (c_llIter hA') fun v h2 w2 g2 hP => ?_
  obtain ⟨rfl, rfl⟩ := hP
  refine e_run 1 9 rfl ?_
  refine ex_post (emptied_loop (h0 := h) (tg2 := (3, 0)) (it := h.2.1) (Ne.symm (Nat.ne_of_lt (w _ _ hA1))) (Nat.le_refl _) xs ns m 0 _ _ (by omega) ⟨hnew_old w hA1, t0, l1, l2, nd, fun k x hx => ?_⟩ ⟨hnew_at, rfl⟩ ⟨rfl, rfl, rfl, trivial⟩ (fun q y hq _ _ => hnew_old w hq) w) fun o h5 w5 g5 hq => ?_
  · obtain ⟨v, hv, hB⟩ := hn k x hx
    exact ⟨v, hv, hnew_old w hB⟩
  · obtain ⟨r, rfl, rfl, k1, k2, k3⟩ := hq
    refine ⟨_, rfl, by rw [Nat.zero_add], k1, k2, by rw [k3]; rfl, by rw [k3]; rfl⟩
