/-! JDK, ninth: LinkedList (its nodes are tagged as its backing) -/
def LL (h : AH) (a : Nat) (xs ns : List Nat) : Prop := ∃ (tg : Tg) (m : Int), h.1 a = some (tg, oObj 17 [J m, J xs.length, Ro ns.head?, Ro ns.getLast?]) ∧ tg.1 = 3 ∧ ns.length = xs.length ∧ xs.length ≤ 1000 ∧ ns.Nodup ∧
  ∀ (k x : Nat), ns[k]? = some x → ∃ v : Nat, xs[k]? = some v ∧ h.1 x = some ((4, a), oObj 20 [Rf v, Ro ns[k + 1]?, Ro (if k = 0 then none else ns[k - 1]?)])
theorem LL.kp {h h1 : AH} {a q : Nat} {xs ns : List Nat} (hA : LL h a xs ns) (k : FrA q h h1) (hq : a ≠ q) (hq2 : ∃ x, h.1 q = some x ∧ x.1.1 = 3) : LL h1 a xs ns := by
  obtain ⟨tg, m, hA1, t0, l1, l2, nd, hn⟩ := hA
  refine ⟨tg, m, k _ _ hA1 hq ?_, t0, l1, l2, nd, fun j x hx => ?_⟩
  · intro e
    rw [show tg = (4, q) from e] at t0
    exact absurd (show (4 : Nat) = 3 from t0) (by decide)
  · obtain ⟨v, hv, hB⟩ := hn j x hx
    refine ⟨v, hv, k _ _ hB ?_ ?_⟩
    · intro e
      rw [e] at hB
      obtain ⟨x, hx, hx3⟩ := hq2
      cases hx.symm.trans hB
      exact absurd (show (4 : Nat) = 3 from hx3) (by decide)
    · intro e
      exact hq (congrArg Prod.snd e)
theorem c_nodeInit {h : AH} {n e : Nat} {pr nx : Option Nat} {tg : Tg} (hA : h.1 n = some (tg, oObj 20 [Rn, Rn, Rn])) (t0 : tg.1 = 4) : Call MJ19_init 1 [Rf n, Ro pr, Rf e, Ro nx] h (Ret fun v h1 => v = none ∧ h1 = hset h n (tg, oObj 20 [Rf e, Ro nx, Ro pr])) := by
  refine call_of okJ19_init (by decide +kernel) (Nat.le_of_ble_eq_true rfl) ?_
  refine e_run 1 1 rfl ?_
  refine e_objInit lkoJ19_1 q190 q191 rfl (Nat.le_of_ble_eq_true rfl) ?_
  refine e_run 2 6 rfl ?_
  refine e_putf fwJ19_7 rfl hA (by first | decide | omega) (Nat.le_of_ble_eq_true rfl) (pn_obj _ _) ?_
  refine e_run 2 11 rfl ?_
  refine e_putf fwJ19_13 rfl hset_at (by first | decide | omega) (Nat.le_of_ble_eq_true rfl) (pn_obj _ _) ?_
  refine e_run 2 16 rfl ?_
  refine e_putf fwJ19_17 rfl hset_at (by first | decide | omega) (Nat.le_of_ble_eq_true rfl) (pn_obj _ _) ?_
  refine ex_return rfl rfl ?_
  rw [hset_hset, hset_hset]
  exact ⟨_, rfl, rfl, rfl⟩
theorem c_initAL5 {h : AH} {a : Nat} {tg : Tg} {r r2 : Option Nat} {n : Int} (hA : h.1 a = some (tg, oObj 17 [J 0, J n, Ro r, Ro r2])) (t0 : tg.1 = 3) : Call MJ1_init 2 [Rf a] h (Ret fun v h1 => v = none ∧ h1 = hset h a (tg, oObj 17 [J 0, J n, Ro r, Ro r2])) := by
  refine call_of okJ1_init (by decide +kernel) (Nat.le_of_ble_eq_true rfl) ?_
  refine e_run 1 1 rfl ?_
  refine e_ii0 (by decide) lkiJ1_1 rfl (Nat.le_of_ble_eq_true rfl) c_initAC fun v h2 w2 g2 hP => ?_
  obtain ⟨rfl, rfl⟩ := hP
  refine e_run 2 6 rfl ?_
  refine e_putf fwJ1_7_J5 rfl hA (by omega) (Nat.le_of_ble_eq_true rfl) (pn_int _) ?_
  refine ex_return rfl rfl ?_
  exact ⟨_, rfl, rfl, rfl⟩
theorem c_initASL {h : AH} {a : Nat} {tg : Tg} {r r2 : Option Nat} {n : Int} (hA : h.1 a = some (tg, oObj 17 [J 0, J n, Ro r, Ro r2])) (t0 : tg.1 = 3) : Call MJ4_init 3 [Rf a] h (Ret fun v h1 => v = none ∧ h1 = hset h a (tg, oObj 17 [J 0, J n, Ro r, Ro r2])) := by
  refine call_of okJ4_init (by decide +kernel) (Nat.le_of_ble_eq_true rfl) ?_
  refine e_run 1 1 rfl ?_
  refine e_ii0 (by decide) lkiJ4_1 rfl (Nat.le_of_ble_eq_true rfl) (c_initAL5 hA t0) fun v h2 w2 g2 hP => ?_
  obtain ⟨rfl, rfl⟩ := hP
  refine ex_return rfl rfl ?_
  exact ⟨_, rfl, rfl, rfl⟩
/-- new LinkedList() -/
theorem c_llInit {h : AH} {a : Nat} {tg : Tg} (hA : h.1 a = some (tg, oObj 17 [J 0, J 0, Rn, Rn])) (t0 : tg.1 = 3) : Call MJ5_init 4 [Rf a] h (Ret fun v h1 => v = none ∧ LL h1 a [] [] ∧ FrA a h h1 ∧ h1.2.1 = h.2.1 ∧ h1.2.2.1 = h.2.2.1) := by
  refine call_of okJ5_init (by decide +kernel) (Nat.le_of_ble_eq_true rfl) ?_
  refine e_run 1 1 rfl ?_
  refine e_ii0 (by decide) lkiJ5_1 rfl (Nat.le_of_ble_eq_true rfl) (c_initASL hA t0) fun v h2 w2 g2 hP => ?_
  obtain ⟨rfl, rfl⟩ := hP
  refine e_run 2 6 rfl ?_
  refine e_putf fwJ5_7 rfl hset_at (by first | decide | omega) (Nat.le_of_ble_eq_true rfl) (pn_int _) ?_
  refine ex_return rfl rfl ?_
  rw [hset_hset]
  exact ⟨_, rfl, rfl, ⟨tg, 0, hset_at, t0, rfl, by decide, List.nodup_nil, fun k x hx => by cases hx⟩, fun q x hq hqa _ => (hset_ne hqa).trans hq, rfl, rfl⟩
theorem c_llSize {h : AH} {a : Nat} {xs ns : List Nat} (hA : LL h a xs ns) : Call MJ5_size 1 [Rf a] h (Ret fun v h1 => v = some (J xs.length) ∧ h1 = h) := by
  obtain ⟨tg, m, hA1, -⟩ := hA
  refine call_of okJ5_size (by decide +kernel) (Nat.le_of_ble_eq_true rfl) ?_
  refine e_run 1 1 rfl ?_
  refine e_getf fwJ5_7 rfl hA1 rfl ?_
  refine ex_ireturn rfl ⟨_, rfl, rfl⟩ ?_
  exact ⟨_, rfl, rfl, rfl⟩
theorem c_linkLast {h : AH} {a v : Nat} {xs ns : List Nat} (hA : LL h a xs ns) (hl : xs.length < 1000) : Call MJ5_linkLast 2 [Rf a, Rf v] h (Ret fun r h1 => r = none ∧ LL h1 a (xs ++ [v]) (ns ++ [h.2.1]) ∧ FrA a h h1 ∧ h1.2.1 = h.2.1 + 1 ∧ h1.2.2.1 = h.2.2.1 + 3) := by
  refine call_wf fun w => ?_
  obtain ⟨tg, m, hA1, t0, l1, l2, nd, hn⟩ := hA
  have hal := w _ _ hA1
  have hlen : (xs ++ [v]).length = xs.length + 1 := by rw [List.length_append]; rfl
  have hnl : ∀ x ∈ ns, x < h.2.1 ∧ x ≠ a := by
    intro x hx
    obtain ⟨k, hk⟩ := List.getElem?_of_mem hx
    obtain ⟨v, -, hB⟩ := hn k x hk
    refine ⟨w _ _ hB, ?_⟩
    intro e
    rw [e, hA1] at hB
    cases hB
  have nd' : (ns ++ [h.2.1]).Nodup := by
    rw [List.nodup_append]
    refine ⟨nd, by simp, ?_⟩
    intro x hx y hy
    rw [List.mem_singleton] at hy
    have := (hnl x hx).1
    omega
  refine call_of okJ5_linkLast (by decide +kernel) (Nat.le_of_ble_eq_true rfl) ?_
  refine e_run 1 1 rfl ?_
  refine e_getf fwJ5_27 rfl hA1 rfl ?_
  refine e_run 1 5 rfl ?_
  refine e_new ((4, a)) nwJ5_22 rfl ?_
  refine e_run 4 12 rfl ?_
  refine e_ii3 (by decide) lkiJ5_24 rfl (Nat.le_of_ble_eq_true rfl) (c_nodeInit hnew_at rfl) fun r h2 w2 g2 hP => ?_
  obtain ⟨rfl, rfl⟩ := hP
  rw [hset_hnew]
  have hA2 := hnew_old (x := ((4, a), oObj 20 [Rf v, Rn, Ro ns.getLast?])) (n := 3) w hA1
  refine e_run 3 18 rfl ?_
  refine e_putf fwJ5_27 rfl hA2 (by first | decide | omega) (Nat.le_of_ble_eq_true rfl) (pn_obj _ _) ?_
  refine e_run 1 22 rfl ?_
  cases hgl : ns.getLast? with
  | none =>
    have hns : ns = [] := List.getLast?_eq_none_iff.mp hgl
    subst hns
    refine e_ifnonnull 33 rfl rfl (fun ac1 c1 => ?_) (fun c1 => ?_)
    · cases c1
    refine e_run 2 27 rfl ?_
    refine e_putf fwJ5_18 rfl hset_at (by first | decide | omega) (Nat.le_of_ble_eq_true rfl) (pn_obj _ _) ?_
    refine e_run 3 40 rfl ?_
    refine e_getf fwJ5_7 rfl hset_at rfl ?_
    refine e_run 2 45 rfl ?_
    refine e_putf fwJ5_7 rfl hset_at (by first | decide | omega) (Nat.le_of_ble_eq_true rfl) (pn_int _) ?_
    refine e_run 2 50 rfl ?_
    refine e_getf fwJ5_33 rfl hset_at rfl ?_
    refine e_run 2 55 rfl ?_
    refine e_putf fwJ5_33 rfl hset_at (by first | decide | omega) (Nat.le_of_ble_eq_true rfl) (pn_int _) ?_
    refine ex_return rfl rfl ?_
    rw [hset_hset, hset_hset, hset_hset]
    have hx0 : xs = [] := List.length_eq_zero_iff.mp (by rw [← l1]; rfl)
    subst hx0
    refine ⟨_, rfl, rfl, ⟨tg, _, hset_at, t0, rfl, Nat.le_of_ble_eq_true rfl, nd', fun k x hx => ?_⟩, fun q x hq hqa _ => (hset_ne hqa).trans (hnew_old w hq), rfl, rfl⟩
    cases k with
    | zero =>
      obtain rfl := Option.some.inj hx
      exact ⟨v, rfl, (hset_ne (by omega)).trans (by rw [hnew_at]; rfl)⟩
    | succ k => cases hx
  | some l0 =>
    have hlm : ns[ns.length - 1]? = some l0 := by rw [← List.getLast?_eq_getElem?]; exact hgl
    have hl0 : l0 ∈ ns := List.mem_of_getElem? hlm
    have hpos : 1 ≤ ns.length := List.length_pos_of_mem hl0
    obtain ⟨v0, hv0, hB0⟩ := hn _ _ hlm
    have hh : (ns ++ [h.2.1]).head? = ns.head? := by
      cases ns with
      | nil => cases hl0
      | cons y t => rfl
    have hne0 := hnl l0 hl0
    rw [hgl] at hA2
    refine e_ifnonnull 33 rfl rfl (fun ac1 c1 => ?_) (fun c1 => ?_)
    rotate_left
    · cases c1
    have hB1 : (hset (hnew h ((4, a), oObj 20 [Rf v, Rn, Rf l0]) 3) a (tg, oObj 17 [J m, J xs.length, Ro ns.head?, Rf h.2.1])).1 l0 = _ := (hset_ne hne0.2).trans (hnew_old w hB0)
    have hA3 : (hset (hset (hnew h ((4, a), oObj 20 [Rf v, Rn, Rf l0]) 3) a (tg, oObj 17 [J m, J xs.length, Ro ns.head?, Rf h.2.1])) l0 ((4, a), oObj 20 [Rf v0, Rf h.2.1, Ro (if ns.length - 1 = 0 then none else ns[ns.length - 1 - 1]?)])).1 a = _ := (hset_ne (Ne.symm hne0.2)).trans hset_at
    refine e_run 2 35 rfl ?_
    refine e_putf fwJ5_36 rfl hB1 (show (4 : Nat) ≠ 0 by decide) (Nat.le_of_ble_eq_true rfl) (pn_obj _ _) ?_
    refine e_run 2 40 rfl ?_
    refine e_getf fwJ5_7 rfl hA3 rfl ?_
    refine e_run 2 45 rfl ?_
    refine e_putf fwJ5_7 rfl hA3 (by first | decide | omega) (Nat.le_of_ble_eq_true rfl) (pn_int _) ?_
    refine e_run 2 50 rfl ?_
    refine e_getf fwJ5_33 rfl hset_at rfl ?_
    refine e_run 2 55 rfl ?_
    refine e_putf fwJ5_33 rfl hset_at (by first | decide | omega) (Nat.le_of_ble_eq_true rfl) (pn_int _) ?_
    refine ex_return rfl rfl ?_
    rw [hset_hset]
    refine ⟨_, rfl, rfl, ⟨tg, m + 1, ?_, t0, by rw [List.length_append, List.length_append, l1]; rfl, by omega, nd', fun k x hx => ?_⟩, fun q x hq hqa hq4 => ?_, rfl, rfl⟩
    · rw [hset_at, hh, hlen, List.getLast?_concat]
      rfl
    · by_cases hk : k < ns.length
      · rw [List.getElem?_append_left hk] at hx
        obtain ⟨v9, hv9, hB9⟩ := hn k x hx
        refine ⟨v9, by rw [List.getElem?_append_left (by omega)]; exact hv9, ?_⟩
        have hxm := hnl x (List.mem_of_getElem? hx)
        rw [hset_ne hxm.2]
        have hprev : (if k = 0 then none else (ns ++ [h.2.1])[k - 1]?) = (if k = 0 then none else ns[k - 1]?) := by
          split
          · rfl
          · rw [List.getElem?_append_left (by omega)]
        rw [hprev]
        by_cases hk2 : k = ns.length - 1
        · subst hk2
          cases Option.some.inj (hlm.symm.trans hx)
          cases Option.some.inj (hv0.symm.trans hv9)
          rw [hset_at, show ns.length - 1 + 1 = ns.length by omega, List.getElem?_concat_length]
          rfl
        · have hxl : x ≠ l0 := by
            intro e
            subst e
            exact hk2 ((List.getElem?_inj hk nd).mp (hx.trans hlm.symm))
          rw [hset_ne hxl, hset_ne hxm.2, hnew_old w hB9, List.getElem?_append_left (by omega)]
      · have hk2 : k = ns.length := by
          apply Classical.byContradiction
          intro h9
          rw [List.getElem?_eq_none (by rw [List.length_append]; show ns.length + 1 ≤ k; omega)] at hx
          cases hx
        subst hk2
        rw [List.getElem?_concat_length] at hx
        obtain rfl := Option.some.inj hx
        refine ⟨v, by rw [l1, List.getElem?_concat_length], ?_⟩
        rw [hset_ne (by omega), hset_ne (by omega), hset_ne (by omega), hnew_at, List.getElem?_eq_none (by rw [List.length_append]; show ns.length + 1 ≤ ns.length + 1; omega), if_neg (by omega), List.getElem?_append_left (by omega), hlm]
    · rw [hset_ne hqa, hset_ne ?_, hset_ne hqa]
      · exact hnew_old w hq
      · intro e
        rw [e, hB0] at hq
        obtain rfl := Option.some.inj hq
        exact hq4 rfl
/-- list.add(x) -/
theorem c_llAdd {h : AH} {a v : Nat} {xs ns : List Nat} (hA : LL h a xs ns) (hl : xs.length < 1000) : Call MJ5_add 3 [Rf a, Rf v] h (Ret fun r h1 => r = some (J 1) ∧ LL h1 a (xs ++ [v]) (ns ++ [h.2.1]) ∧ FrA a h h1 ∧ h1.2.1 = h.2.1 + 1 ∧ h1.2.2.1 = h.2.2.1 + 3) := by
  obtain ⟨tg, m, hA1, -⟩ := id hA
  refine call_of okJ5_add (by decide +kernel) (Nat.le_of_ble_eq_true rfl) ?_
  refine e_run 2 2 rfl ?_
  refine e_iv1 (by decide) lkvJ5_57 rfl hA1 (Nat.le_of_ble_eq_true rfl) (c_linkLast hA hl) fun r h2 w2 g2 hP => ?_
  obtain ⟨rfl, hP⟩ := hP
  refine e_run 1 6 rfl ?_
  refine ex_ireturn rfl ⟨_, rfl, rfl⟩ ?_
  exact ⟨_, rfl, rfl, hP⟩
