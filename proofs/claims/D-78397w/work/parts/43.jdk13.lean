/-! JDK, thirteenth: the list iterator that empties a LinkedList -/
def It (h : AH) (it a : Nat) (lr nx : Option Nat) (k : Nat) (m : Int) (tg : Tg) : Prop := h.1 it = some (tg, oObj 21 [Ro lr, Ro nx, J k, J m, Rf a]) ∧ tg.1 = 3
theorem c_itInit {h : AH} {it a : Nat} {xs ns : List Nat} {tg tg2 : Tg} {m : Int} (hA : LLm h a xs ns tg m) (hI : h.1 it = some (tg2, oObj 21 [Rn, Rn, J 0, J 0, Rn])) (t2 : tg2.1 = 3) : Call MJ26_init 2 [Rf it, Rf a, J 0] h (Ret fun v h1 => v = none ∧ h1 = hset h it (tg2, oObj 21 [Rn, Ro ns.head?, J 0, J m, Rf a])) := by
  obtain ⟨hA1, t0, l1, l2, nd, hn⟩ := id hA
  have hne : a ≠ it := by
    intro e
    rw [e, hI] at hA1
    cases hA1
  have hni : ∀ x ∈ ns, x ≠ it := by
    intro x hx e
    obtain ⟨k, hk⟩ := List.getElem?_of_mem hx
    obtain ⟨v, -, hB⟩ := hn k x hk
    rw [e, hI] at hB
    cases hB
  have k1 : ∀ y : Tg × Obj, LLm (hset h it y) a xs ns tg m := fun y => ⟨(hset_ne hne).trans hA1, t0, l1, l2, nd, fun k x hx => by
    obtain ⟨v, hv, hB⟩ := hn k x hx
    exact ⟨v, hv, (hset_ne (hni x (List.mem_of_getElem? hx))).trans hB⟩⟩
  refine call_of okJ26_init (by decide +kernel) (Nat.le_of_ble_eq_true rfl) ?_
  refine e_run 2 2 rfl ?_
  refine e_putF foJ26_1 rfl rfl hI (by first | decide | omega) (Nat.le_of_ble_eq_true rfl) (pn_obj _ _) ?_
  refine e_run 1 6 rfl ?_
  refine e_objInit lkoJ26_7 q190 q191 rfl (Nat.le_of_ble_eq_true rfl) ?_
  refine e_run 2 11 rfl ?_
  refine e_getf fwJ26_1 rfl hset_at rfl ?_
  refine e_getf fwJ26_13_J5 rfl ((hset_ne hne).trans hA1) rfl ?_
  refine e_putf fwJ26_19 rfl hset_at (by first | decide | omega) (Nat.le_of_ble_eq_true rfl) (pn_int _) ?_
  refine e_run 3 23 rfl ?_
  refine e_getf fwJ26_22 rfl ((hset_ne hne).trans ((hset_ne hne).trans hA1)) rfl ?_
  rw [hset_hset]
  refine e_icmpne 33 rfl rfl (by omega) (by omega) (fun c1 => ?_) (fun c1 => ?_)
  · have hpos : 0 < xs.length := by omega
    refine e_run 2 35 rfl ?_
    refine e_iv1 (by decide) lkvJ26_25 rfl (k1 _).1 (Nat.le_of_ble_eq_true rfl) (c_llNode (k := 0) ⟨tg, m, k1 _⟩ hpos) fun v h2 w2 g2 hP => ?_
    obtain ⟨⟨y, rfl, hy⟩, rfl⟩ := hP
    refine e_putf fwJ26_29 rfl hset_at (by first | decide | omega) (Nat.le_of_ble_eq_true rfl) (pn_obj _ _) ?_
    refine e_run 2 43 rfl ?_
    refine e_putf fwJ26_33 rfl hset_at (by first | decide | omega) (Nat.le_of_ble_eq_true rfl) (pn_int _) ?_
    refine ex_return rfl rfl ?_
    rw [hset_hset, hset_hset]
    refine ⟨_, rfl, rfl, ?_⟩
    rw [List.head?_eq_getElem?, hy]
    rfl
  · have hx0 : ns = [] := List.length_eq_zero_iff.mp (by omega)
    subst hx0
    refine e_run 2 38 rfl ?_
    refine e_putf fwJ26_29 rfl hset_at (by first | decide | omega) (Nat.le_of_ble_eq_true rfl) (pn_obj _ _) ?_
    refine e_run 2 43 rfl ?_
    refine e_putf fwJ26_33 rfl hset_at (by first | decide | omega) (Nat.le_of_ble_eq_true rfl) (pn_int _) ?_
    refine ex_return rfl rfl ?_
    rw [hset_hset, hset_hset]
    exact ⟨_, rfl, rfl, rfl⟩
theorem c_itMod {h : AH} {it a : Nat} {xs ns : List Nat} {lr nx : Option Nat} {k : Nat} {tg tg2 : Tg} {m : Int} (hA : LLm h a xs ns tg m) (hI : It h it a lr nx k m tg2) : Call MJ26_checkForComodification 1 [Rf it] h (Ret fun v h1 => v = none ∧ h1 = h) := by
  refine call_of okJ26_checkForComodification (by decide +kernel) (Nat.le_of_ble_eq_true rfl) ?_
  refine e_run 1 1 rfl ?_
  refine e_getf fwJ26_1 rfl hI.1 rfl ?_
  refine e_getf fwJ26_13_J5 rfl hA.1 rfl ?_
  refine e_run 1 8 rfl ?_
  refine e_getf fwJ26_19 rfl hI.1 rfl ?_
  refine e_icmpeqS 22 rfl rfl ?_
  refine ex_return rfl rfl ?_
  exact ⟨_, rfl, rfl, rfl⟩
theorem c_itHas {h : AH} {it a : Nat} {xs ns : List Nat} {lr nx : Option Nat} {tg tg2 : Tg} {m : Int} (hA : LLm h a xs ns tg m) (hI : It h it a lr nx 0 m tg2) : Call MJ26_hasNext 1 [Rf it] h (Ret fun v h1 => v = some (J (if xs = [] then 0 else 1)) ∧ h1 = h) := by
  obtain ⟨hA1, t0, l1, l2, nd, hn⟩ := id hA
  refine call_of okJ26_hasNext (by decide +kernel) (Nat.le_of_ble_eq_true rfl) ?_
  refine e_run 1 1 rfl ?_
  refine e_getf fwJ26_33 rfl hI.1 rfl ?_
  refine e_run 1 5 rfl ?_
  refine e_getf fwJ26_1 rfl hI.1 rfl ?_
  refine e_getf fwJ26_22 rfl hA1 rfl ?_
  refine e_icmpge 18 rfl rfl (by omega) (by omega) (fun c1 => ?_) (fun c1 => ?_)
  · refine e_run 1 19 rfl ?_
    refine ex_ireturn rfl ⟨_, rfl, rfl⟩ ?_
    refine ⟨_, rfl, ?_, rfl⟩
    rw [if_pos (List.length_eq_zero_iff.mp (by omega))]
  · refine e_run 2 19 rfl ?_
    refine ex_ireturn rfl ⟨_, rfl, rfl⟩ ?_
    refine ⟨_, rfl, ?_, rfl⟩
    rw [if_neg]
    intro e
    subst e
    exact c1 (Int.le_refl _)
theorem c_itNext {h : AH} {it a v x : Nat} {xs ns : List Nat} {tg tg2 : Tg} {m : Int} (hA : LLm h a (v :: xs) (x :: ns) tg m) (hI : It h it a none (some x) 0 m tg2) : Call MJ26_next 2 [Rf it] h (Ret fun r h1 => r = some (Rf v) ∧ h1 = hset h it (tg2, oObj 21 [Rf x, Ro ns.head?, J 1, J m, Rf a])) := by
  obtain ⟨hA1, t0, l1, l2, nd, hn⟩ := id hA
  obtain ⟨hI1, t2⟩ := id hI
  obtain ⟨v0, hv0, hB⟩ := hn 0 x rfl
  cases Option.some.inj hv0
  have hxi : x ≠ it := by
    intro e
    rw [e, hI1] at hB
    cases hB
  have hB1 : h.1 x = some ((4, a), oObj 20 [Rf v, Ro ns.head?, Rn]) := by
    rw [hB, List.head?_eq_getElem?]
    rfl
  refine call_of okJ26_next (by decide +kernel) (Nat.le_of_ble_eq_true rfl) ?_
  refine e_run 1 1 rfl ?_
  refine e_iv0 (by decide) lkvJ26_36 rfl hI1 (Nat.le_of_ble_eq_true rfl) (c_itMod hA hI) fun r h2 w2 g2 hP => ?_
  obtain ⟨rfl, rfl⟩ := hP
  refine e_run 1 5 rfl ?_
  refine e_iv0 (by decide) lkvJ26_39 rfl hI1 (Nat.le_of_ble_eq_true rfl) (c_itHas hA hI) fun r h3 w3 g3 hP => ?_
  obtain ⟨rfl, rfl⟩ := hP
  rw [if_neg (List.cons_ne_nil v xs)]
  refine e_ifne 19 rfl rfl (by omega) (fun c1 => ?_) (fun c1 => ?_)
  rotate_left
  · omega
  refine e_run 2 21 rfl ?_
  refine e_getf fwJ26_29 rfl hI1 rfl ?_
  refine e_putf fwJ26_46 rfl hI1 (by first | decide | omega) (Nat.le_of_ble_eq_true rfl) (pn_obj _ _) ?_
  refine e_run 2 29 rfl ?_
  refine e_getf fwJ26_29 rfl hset_at rfl ?_
  refine e_getf fwJ26_49 rfl ((hset_ne hxi).trans hB1) rfl ?_
  refine e_putf fwJ26_29 rfl hset_at (by first | decide | omega) (Nat.le_of_ble_eq_true rfl) (pn_obj _ _) ?_
  refine e_run 2 40 rfl ?_
  refine e_getf fwJ26_33 rfl hset_at rfl ?_
  refine e_run 2 45 rfl ?_
  refine e_putf fwJ26_33 rfl hset_at (by first | decide | omega) (Nat.le_of_ble_eq_true rfl) (pn_int _) ?_
  refine e_run 1 49 rfl ?_
  refine e_getf fwJ26_46 rfl hset_at rfl ?_
  refine e_getf fwJ26_52 rfl ((hset_ne hxi).trans ((hset_ne hxi).trans ((hset_ne hxi).trans hB1))) rfl ?_
  refine ex_areturn rfl ⟨_, rfl, by first | exact Or.inl ⟨_, rfl⟩ | exact Or.inr ⟨_, rfl⟩⟩ ?_
  rw [hset_hset, hset_hset]
  exact ⟨_, rfl, rfl, rfl⟩
theorem c_itRemove {h : AH} {it a v x : Nat} {xs ns : List Nat} {tg tg2 : Tg} {m : Int} (hA : LLm h a (v :: xs) (x :: ns) tg m) (hI : It h it a (some x) ns.head? 1 m tg2) : Call MJ26_remove 2 [Rf it] h (Ret fun r h1 => r = none ∧ LLm h1 a xs ns tg (m + 1) ∧ It h1 it a none ns.head? 0 (m + 1) tg2 ∧ (∀ q y, h.1 q = some y → q ≠ a → q ≠ it → y.1 ≠ (4, a) → h1.1 q = some y) ∧ h1.2 = h.2) := by
  obtain ⟨hA1, t0, l1, l2, nd, hn⟩ := id hA
  obtain ⟨hI1, t2⟩ := id hI
  rw [List.nodup_cons] at nd
  obtain ⟨v0, hv0, hB⟩ := hn 0 x rfl
  cases Option.some.inj hv0
  have hB1 : h.1 x = some ((4, a), oObj 20 [Rf v, Ro ns.head?, Rn]) := by
    rw [hB, List.head?_eq_getElem?]
    rfl
  have hia : it ≠ a := by
    intro e
    rw [e, hA1] at hI1
    cases hI1
  have hnx : ¬ ns.head? = some x := fun e => nd.1 (List.mem_of_mem_head? e)
  refine call_of okJ26_remove (by decide +kernel) (Nat.le_of_ble_eq_true rfl) ?_
  refine e_run 1 1 rfl ?_
  refine e_iv0 (by decide) lkvJ26_36 rfl hI1 (Nat.le_of_ble_eq_true rfl) (c_itMod hA hI) fun r h2 w2 g2 hP => ?_
  obtain ⟨rfl, rfl⟩ := hP
  refine e_run 1 5 rfl ?_
  refine e_getf fwJ26_46 rfl hI1 rfl ?_
  refine e_ifnonnull 19 rfl rfl (fun ac1 c1 => ?_) (fun c1 => ?_)
  rotate_left
  · cases c1
  refine e_run 1 20 rfl ?_
  refine e_getf fwJ26_46 rfl hI1 rfl ?_
  refine e_getf fwJ26_49 rfl hB1 rfl ?_
  refine e_run 2 28 rfl ?_
  refine e_getf fwJ26_1 rfl hI1 rfl ?_
  refine e_run 1 32 rfl ?_
  refine e_getf fwJ26_46 rfl hI1 rfl ?_
  refine e_iv1 (by decide) lkvJ26_68 rfl hA1 (Nat.le_of_ble_eq_true rfl) (c_unlinkFirst hA) fun r h3 w3 g3 hP => ?_
  obtain ⟨rfl, hA3, hF, hs⟩ := hP
  have hI3 := hF it _ hI1 hia (fun e => by rw [show tg2 = (4, a) from e] at t2; exact absurd (show (4 : Nat) = 3 from t2) (by decide))
  refine e_run 2 40 rfl ?_
  refine e_getf fwJ26_29 rfl hI3 rfl ?_
  refine e_run 1 44 rfl ?_
  refine e_getf fwJ26_46 rfl hI3 rfl ?_
  refine e_acmpne 58 rfl rfl (fun c2 => ?_) (fun c2 => ?_)
  rotate_left
  · exact absurd c2 hnx
  refine e_run 2 60 rfl ?_
  refine e_getf fwJ26_33 rfl hI3 rfl ?_
  refine e_run 2 65 rfl ?_
  refine e_putf fwJ26_33 rfl hI3 (by first | decide | omega) (Nat.le_of_ble_eq_true rfl) (pn_int _) ?_
  refine e_run 2 70 rfl ?_
  refine e_putf fwJ26_46 rfl hset_at (by first | decide | omega) (Nat.le_of_ble_eq_true rfl) (pn_obj _ _) ?_
  refine e_run 2 75 rfl ?_
  refine e_getf fwJ26_19 rfl hset_at rfl ?_
  refine e_run 2 80 rfl ?_
  refine e_putf fwJ26_19 rfl hset_at (by first | decide | omega) (Nat.le_of_ble_eq_true rfl) (pn_int _) ?_
  refine ex_return rfl rfl ?_
  rw [hset_hset, hset_hset]
  obtain ⟨b1, b2, b3, b4, b5, b6⟩ := hA3
  have hni : ∀ y ∈ ns, y ≠ it := by
    intro y hy e
    obtain ⟨k, hk⟩ := List.getElem?_of_mem hy
    obtain ⟨v, -, hB⟩ := b6 k y hk
    rw [e, hI3] at hB
    cases hB
  refine ⟨_, rfl, rfl, ⟨(hset_ne (Ne.symm hia)).trans b1, b2, b3, b4, b5, fun k y hy => ?_⟩, ⟨hset_at, t2⟩, fun q y hq hqa hqi hq4 => (hset_ne hqi).trans (hF q y hq hqa hq4), hs⟩
  obtain ⟨v, hv, hD⟩ := b6 k y hy
  exact ⟨v, hv, (hset_ne (hni y (List.mem_of_getElem? hy))).trans hD⟩
