/-! JDK, twelfth: LinkedList's iterator, as it empties a list from the front -/
section IS
variable {M : MD} {d pc : Nat} {l : Lc} {st : List AV} {h : AH} {Q : AO → AH → Prop}
/-- an int is equal to itself, however it is said -/
theorem e_icmpeqS {a : Int} {off : Int} (tgt : Nat) (hT : mT M pc = some (.if_icmp .eq off, 3)) (ht : (pc : Int) + off = (tgt : Int)) (kt : Ex M d tgt l st h Q) : Ex M d pc l (J a :: J a :: st) h Q := by
  refine ex_of kt fun o h' rt => ?_
  intro D b0 la p e R s m args below meth c s0 C h1 h2 h3 h4 H locs ls hR hlo hA hl
  exact lv_icmp_eq C.1 rfl (C.2.1 _ _ hT) ht (fun _ => rt D b0 la p e R s m args below meth c s0 C h1 h2 h3 h4 H locs ls hR hlo hA hl) (fun c9 => absurd rfl c9)
end IS
def LLm (h : AH) (a : Nat) (xs ns : List Nat) (tg : Tg) (m : Int) : Prop := h.1 a = some (tg, oObj 17 [J m, J xs.length, Ro ns.head?, Ro ns.getLast?]) ∧ tg.1 = 3 ∧ ns.length = xs.length ∧ xs.length ≤ 1000 ∧ ns.Nodup ∧
  ∀ (k x : Nat), ns[k]? = some x → ∃ v : Nat, xs[k]? = some v ∧ h.1 x = some ((4, a), oObj 20 [Rf v, Ro ns[k + 1]?, Ro (if k = 0 then none else ns[k - 1]?)])
theorem LL_iff {h : AH} {a : Nat} {xs ns : List Nat} : LL h a xs ns ↔ ∃ tg m, LLm h a xs ns tg m := Iff.rfl
theorem c_unlinkFirst {h : AH} {a v x : Nat} {xs ns : List Nat} {tg : Tg} {m : Int} (hA : LLm h a (v :: xs) (x :: ns) tg m) : Call MJ5_unlink 1 [Rf a, Rf x] h (Ret fun r h1 => r = some (Rf v) ∧ LLm h1 a xs ns tg (m + 1) ∧ FrA a h h1 ∧ h1.2 = h.2) := by
  obtain ⟨hA1, t0, l1, l2, nd, hn⟩ := hA
  rw [List.nodup_cons] at nd
  obtain ⟨v0, hv0, hB⟩ := hn 0 x rfl
  cases Option.some.inj hv0
  have hxa : x ≠ a := by
    intro e
    rw [e, hA1] at hB
    cases hB
  have hB1 : h.1 x = some ((4, a), oObj 20 [Rf v, Ro ns.head?, Rn]) := by
    rw [hB, List.head?_eq_getElem?]
    rfl
  refine call_of okJ5_unlink (by decide +kernel) (Nat.le_of_ble_eq_true rfl) ?_
  refine e_run 1 1 rfl ?_
  refine e_getf fwJ5_39 rfl hB1 rfl ?_
  refine e_run 2 6 rfl ?_
  refine e_getf fwJ5_36 rfl hB1 rfl ?_
  refine e_run 2 11 rfl ?_
  refine e_getf fwJ5_30 rfl hB1 rfl ?_
  refine e_run 2 18 rfl ?_
  refine e_ifnonnull 29 rfl rfl (fun ac1 c1 => ?_) (fun c1 => ?_)
  · cases c1
  cases ns with
  | nil =>
    have hx0 : xs = [] := List.length_eq_zero_iff.mp (by simp only [List.length_cons, List.length_nil] at l1; omega)
    subst hx0
    refine e_run 2 23 rfl ?_
    refine e_putf fwJ5_18 rfl hA1 (by first | decide | omega) (Nat.le_of_ble_eq_true rfl) (pn_obj _ _) ?_
    refine e_run 2 41 rfl ?_
    refine e_ifnonnull 53 rfl rfl (fun ac2 c2 => ?_) (fun c2 => ?_)
    · cases c2
    refine e_run 2 47 rfl ?_
    refine e_putf fwJ5_27 rfl hset_at (by first | decide | omega) (Nat.le_of_ble_eq_true rfl) (pn_obj _ _) ?_
    refine e_run 1 64 rfl ?_
    rw [hset_hset]
    refine e_run 2 66 rfl ?_
    refine e_putf fwJ5_39 rfl ((hset_ne hxa).trans hB1) (show (4 : Nat) ≠ 0 by decide) (Nat.le_of_ble_eq_true rfl) (pn_obj _ _) ?_
    have hA3 := (hset_ne (h := hset h a (tg, oObj 17 [J m, J ([v] : List Nat).length, Rn, Rn])) (x := ((4, a), oObj 20 [Rn, Rn, Rn])) (Ne.symm hxa)).trans hset_at
    refine e_run 2 71 rfl ?_
    refine e_getf fwJ5_7 rfl hA3 rfl ?_
    refine e_run 2 76 rfl ?_
    refine e_putf fwJ5_7 rfl hA3 (by first | decide | omega) (Nat.le_of_ble_eq_true rfl) (pn_int _) ?_
    refine e_run 2 81 rfl ?_
    refine e_getf fwJ5_33 rfl hset_at rfl ?_
    refine e_run 2 86 rfl ?_
    refine e_putf fwJ5_33 rfl hset_at (by first | decide | omega) (Nat.le_of_ble_eq_true rfl) (pn_int _) ?_
    refine e_run 1 90 rfl ?_
    refine ex_areturn rfl ⟨_, rfl, by first | exact Or.inl ⟨_, rfl⟩ | exact Or.inr ⟨_, rfl⟩⟩ ?_
    rw [hset_hset]
    refine ⟨_, rfl, rfl, ⟨?_, t0, rfl, Nat.zero_le _, List.nodup_nil, fun k x hx => by cases hx⟩, fun q y hq hqa hq4 => ?_, rfl⟩
    · rw [hset_at]
      rfl
    · have hqx : q ≠ x := by
        intro e
        rw [e, hB1] at hq
        obtain rfl := Option.some.inj hq
        exact hq4 rfl
      rw [hset_ne hqa, hset_ne hqx, hset_ne hqa]
      exact hq
  | cons y t =>
    obtain ⟨w0, hw0, hC⟩ := hn 1 y rfl
    have hxy : x ≠ y := fun e => nd.1 (by rw [e]; exact List.mem_cons_self)
    have hya : y ≠ a := by
      intro e
      rw [e, hA1] at hC
      cases hC
    have hC1 : h.1 y = some ((4, a), oObj 20 [Rf w0, Ro t.head?, Rf x]) := by
      rw [hC, List.head?_eq_getElem?]
      rfl
    refine e_run 2 23 rfl ?_
    refine e_putf fwJ5_18 rfl hA1 (by first | decide | omega) (Nat.le_of_ble_eq_true rfl) (pn_obj _ _) ?_
    refine e_run 2 41 rfl ?_
    refine e_ifnonnull 53 rfl rfl (fun ac2 c2 => ?_) (fun c2 => ?_)
    rotate_left
    · cases c2
    refine e_run 2 56 rfl ?_
    refine e_putf fwJ5_30 rfl ((hset_ne hya).trans hC1) (show (4 : Nat) ≠ 0 by decide) (Nat.le_of_ble_eq_true rfl) (pn_obj _ _) ?_
    refine e_run 2 61 rfl ?_
    refine e_putf fwJ5_36 rfl ((hset_ne hxy).trans ((hset_ne hxa).trans hB1)) (show (4 : Nat) ≠ 0 by decide) (Nat.le_of_ble_eq_true rfl) (pn_obj _ _) ?_
    refine e_run 2 66 rfl ?_
    refine e_putf fwJ5_39 rfl hset_at (show (4 : Nat) ≠ 0 by decide) (Nat.le_of_ble_eq_true rfl) (pn_obj _ _) ?_
    rw [hset_hset]
    have hA3 := (hset_ne (h := hset (hset h a (tg, oObj 17 [J m, J (v :: xs).length, Rf y, Ro (x :: y :: t).getLast?])) y ((4, a), oObj 20 [Rf w0, Ro t.head?, Rn])) (x := ((4, a), oObj 20 [Rn, Rn, Rn])) (Ne.symm hxa)).trans ((hset_ne (Ne.symm hya)).trans hset_at)
    refine e_run 2 71 rfl ?_
    refine e_getf fwJ5_7 rfl hA3 rfl ?_
    refine e_run 2 76 rfl ?_
    refine e_putf fwJ5_7 rfl hA3 (by first | decide | omega) (Nat.le_of_ble_eq_true rfl) (pn_int _) ?_
    refine e_run 2 81 rfl ?_
    refine e_getf fwJ5_33 rfl hset_at rfl ?_
    refine e_run 2 86 rfl ?_
    refine e_putf fwJ5_33 rfl hset_at (by first | decide | omega) (Nat.le_of_ble_eq_true rfl) (pn_int _) ?_
    refine e_run 1 90 rfl ?_
    refine ex_areturn rfl ⟨_, rfl, by first | exact Or.inl ⟨_, rfl⟩ | exact Or.inr ⟨_, rfl⟩⟩ ?_
    rw [hset_hset]
    simp only [List.length_cons] at l1 l2
    refine ⟨_, rfl, rfl, ⟨?_, t0, by simp only [List.length_cons]; omega, by omega, nd.2, fun k z hz => ?_⟩, fun q u hq hqa hq4 => ?_, rfl⟩
    · rw [hset_at]
      show some (tg, oObj 17 [J (m + 1), J (((v :: xs).length : Int) - 1), Rf y, Ro (x :: y :: t).getLast?]) = some (tg, oObj 17 [J (m + 1), J (xs.length : Int), Rf y, Ro (y :: t).getLast?])
      rw [show ((v :: xs).length : Int) - 1 = (xs.length : Int) by simp only [List.length_cons]; omega, List.getLast?_cons_cons]
    · obtain ⟨u, hu, hD⟩ := hn (k + 1) z hz
      have hzx : z ≠ x := fun e => nd.1 (by rw [← e]; exact List.mem_of_getElem? hz)
      have hza : z ≠ a := by
        intro e
        rw [e, hA1] at hD
        cases hD
      refine ⟨u, hu, ?_⟩
      rw [hset_ne hza, hset_ne hzx]
      cases k with
      | zero =>
        cases Option.some.inj hz
        cases Option.some.inj (hw0.symm.trans hu)
        rw [hset_at, List.head?_eq_getElem?]
        rfl
      | succ k =>
        have hzy : z ≠ y := by
          intro e
          subst e
          have h1 : k + 1 < (z :: t).length := (List.getElem?_eq_some_iff.mp hz).1
          have h2 := (List.getElem?_inj h1 nd.2).mp (hz.trans (show some z = (z :: t)[0]? from rfl))
          omega
        rw [hset_ne hzy, hset_ne hza]
        exact hD
    · have hqx : q ≠ x := by
        intro e
        rw [e, hB1] at hq
        obtain rfl := Option.some.inj hq
        exact hq4 rfl
      have hqy : q ≠ y := by
        intro e
        rw [e, hC1] at hq
        obtain rfl := Option.some.inj hq
        exact hq4 rfl
      rw [hset_ne hqa, hset_ne hqx, hset_ne hqy, hset_ne hqa]
      exact hq
