/-! JDK, fourteenth: list.iterator() of a LinkedList -/
theorem c_llListIt {h : AH} {a : Nat} {xs ns : List Nat} {tg : Tg} {m : Int} (hA : LLm h a xs ns tg m) : Call MJ5_listIterator 3 [Rf a, J 0] h (Ret fun v h1 => v = some (Rf h.2.1) ∧ h1 = hnew h ((3, 0), oObj 21 [Rn, Ro ns.head?, J 0, J m, Rf a]) 5) := by
  refine call_wf fun w => ?_
  obtain ⟨hA1, t0, l1, l2, nd, hn⟩ := id hA
  have k1 : ∀ y : Tg × Obj, LLm (hnew h y 5) a xs ns tg m := fun y => ⟨hnew_old w hA1, t0, l1, l2, nd, fun k x hx => by
    obtain ⟨v, hv, hB⟩ := hn k x hx
    exact ⟨v, hv, hnew_old w hB⟩⟩
  refine call_of okJ5_listIterator (by decide +kernel) (Nat.le_of_ble_eq_true rfl) ?_
  refine e_run 2 2 rfl ?_
  refine e_iv1 (by decide) lkvJ5_76 rfl hA1 (Nat.le_of_ble_eq_true rfl) (c_llChkPos (k := 0) ⟨tg, m, hA⟩ (Nat.zero_le _)) fun v h2 w2 g2 hP => ?_
  obtain ⟨rfl, rfl⟩ := hP
  refine e_new ((3, 0)) nwJ5_150 rfl ?_
  refine e_run 3 11 rfl ?_
  refine e_ii2 (by decide) lkiJ5_152 rfl (Nat.le_of_ble_eq_true rfl) (c_itInit (k1 _) hnew_at rfl) fun v h3 w3 g3 hP => ?_
  obtain ⟨rfl, rfl⟩ := hP
  rw [hset_hnew]
  refine ex_areturn rfl ⟨_, rfl, by first | exact Or.inl ⟨_, rfl⟩ | exact Or.inr ⟨_, rfl⟩⟩ ?_
  exact ⟨_, rfl, rfl, rfl⟩
theorem c_llIt1 {h : AH} {a : Nat} {xs ns : List Nat} {tg : Tg} {m : Int} (hA : LLm h a xs ns tg m) : Call MJ1_listIterator 4 [Rf a] h (Ret fun v h1 => v = some (Rf h.2.1) ∧ h1 = hnew h ((3, 0), oObj 21 [Rn, Ro ns.head?, J 0, J m, Rf a]) 5) := by
  refine call_of okJ1_listIterator (by decide +kernel) (Nat.le_of_ble_eq_true rfl) ?_
  refine e_run 2 2 rfl ?_
  refine e_iu1 (by decide) lkuJ1_47_J5 rfl hA.1 (Nat.le_of_ble_eq_true rfl) (c_llListIt hA) fun v h2 w2 g2 hP => ?_
  obtain ⟨rfl, rfl⟩ := hP
  refine ex_areturn rfl ⟨_, rfl, by first | exact Or.inl ⟨_, rfl⟩ | exact Or.inr ⟨_, rfl⟩⟩ ?_
  exact ⟨_, rfl, rfl, rfl⟩
theorem c_llIter {h : AH} {a : Nat} {xs ns : List Nat} {tg : Tg} {m : Int} (hA : LLm h a xs ns tg m) : Call MJ4_iterator 5 [Rf a] h (Ret fun v h1 => v = some (Rf h.2.1) ∧ h1 = hnew h ((3, 0), oObj 21 [Rn, Ro ns.head?, J 0, J m, Rf a]) 5) := by
  refine call_of okJ4_iterator (by decide +kernel) (Nat.le_of_ble_eq_true rfl) ?_
  refine e_run 1 1 rfl ?_
  refine e_iu0 (by decide) lkuJ4_65_J5 rfl hA.1 (Nat.le_of_ble_eq_true rfl) (c_llIt1 hA) fun v h2 w2 g2 hP => ?_
  obtain ⟨rfl, rfl⟩ := hP
  refine ex_areturn rfl ⟨_, rfl, by first | exact Or.inl ⟨_, rfl⟩ | exact Or.inr ⟨_, rfl⟩⟩ ?_
  exact ⟨_, rfl, rfl, rfl⟩
