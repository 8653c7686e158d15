/-! LAYER 1: arrays -/
def az (t : Nat) (c : ArrC) (k : Nat) : Value := match c with
  | .inl g => if t = 3 then .long (Int64.ofInt (g k)) else .int (Int32.ofInt (g k))
  | .inr r => va_rf (r k)
theorem cell_az (cA : ClassId) (t n : Nat) (c : ArrC) : vp_cell cA (cvA t n c) = arrV cA n (az t c) := by
  rcases c with g | r
  · unfold cvA az
    by_cases ht : t = 3
    · simp only [if_pos ht]; rfl
    · simp only [if_neg ht]; rfl
  · rfl
theorem oAt_arr {D : GD} {a t n : Nat} {c : ArrC} {H : Heap} (h : oAt D a (.inl (t, n, c)) H) : H[a]? = some (arrV (D.2.1 t) n (az t c)) := by
  rw [← cell_az]; exact h
theorem oAt_of {D : GD} {a t n : Nat} {c : ArrC} {H : Heap} (h : H[a]? = some (arrV (D.2.1 t) n (az t c))) : oAt D a (.inl (t, n, c)) H := by
  rw [← cell_az] at h; exact h
theorem az_upI (t : Nat) (ht : t ≠ 3) (g : Nat → Int) (k : Nat) (x : Int) : updV (az t (.inl g)) k (.int (Int32.ofInt x)) = az t (.inl (va_up g k x)) := by
  funext q
  unfold updV az va_up
  simp only [if_neg ht]
  by_cases hq : q = k
  · simp [hq]
  · simp [hq]
theorem az_upL (g : Nat → Int) (k : Nat) (x : Int) : updV (az 3 (.inl g)) k (.long (Int64.ofInt x)) = az 3 (.inl (va_up g k x)) := by
  funext q
  unfold updV az va_up
  by_cases hq : q = k
  · simp [hq]
  · simp [hq]
theorem az_upR (t : Nat) (g : Nat → Option Nat) (k : Nat) (x : Option Nat) : updV (az t (.inr g)) k (va_rf x) = az t (.inr (va_up g k x)) := by
  funext q
  unfold updV az va_up
  by_cases hq : q = k
  · simp [hq]
  · simp [hq]
theorem arr_in {cA : ClassId} {n : Nat} {z : Nat → Value} {i : Int} (h0 : 0 ≤ i) (h1 : i < n) (hn : i ≤ 2147483647) : ¬ (Int32.ofInt i < 0 ∨ (arrV cA n z).slots.size ≤ (Int32.ofInt i).toNatClampNeg) := by
  rw [arrV_size]
  exact (ix_in h0 h1 hn).1
theorem arr_rd {cA : ClassId} {n : Nat} {z : Nat → Value} {i : Int} (h0 : 0 ≤ i) (h1 : i < n) (hn : i ≤ 2147483647) : (arrV cA n z).slots[(Int32.ofInt i).toNatClampNeg]? = some (z i.toNat) := by
  rw [(ix_in h0 h1 hn).2, arrV_read _ _ (by omega)]
theorem az_zero {t : Nat} {ty : FieldType} (t4 : t < 4) (ht : ATs[t]? = some ty) : (fun _ => defaultValue ty) = az t (.inl (fun _ => 0)) := by
  funext q
  have : t = 0 ∨ t = 1 ∨ t = 2 ∨ t = 3 := by omega
  rcases this with rfl | rfl | rfl | rfl
  · cases Option.some.inj ht.symm; rfl
  · cases Option.some.inj ht.symm; rfl
  · cases Option.some.inj ht.symm; rfl
  · cases Option.some.inj ht.symm; rfl
section AR
variable {M : MD} {d pc pc1 len : Nat} {l l1 : Lc} {st st1 : List AV} {h h' : AH} {o : AO} {Q : AO → AH → Prop}
theorem e_alen {a t n : Nat} {c0 : ArrC} {tg : Tg} (hT : mT M pc = some (.arraylength, 1)) (hc : h.1 a = some (tg, .inl (t, n, c0))) (ht : t < 9) (hn : (n : Int) ≤ 2147483647) (kk : Ex M d (pc + 1) l (J n :: st) h Q) : Ex M d pc l (Rf a :: st) h Q := by
  refine ex_of kk fun o h' r => ?_
  intro D b0 la p e R s m args below meth c s0 C h1 h2 h3 h4 H locs ls hR hlo hA hl
  have hK := C.2.2.2.2.2.2.2.1.1
  obtain ⟨ty, hty⟩ : ∃ ty, ATs[t]? = some ty := ⟨ATs[t]'ht, List.getElem?_eq_getElem ht⟩
  refine W.alen (n := Int32.ofInt n) C.1 rfl (oAt_arr (hR.2.1 a tg _ hc).1) ((hK.2 t _ (tysOf_at hty)).1 n _) ?_ rfl rfl (C.2.1 _ _ hT) (r D b0 la p e R s m args below meth c s0 C h1 h2 h3 h4 H locs ls hR hlo hA hl)
  rw [arrV_size]
  apply Int32.toInt_inj.mp
  rw [toInt_ofInt32 ⟨by omega, hn⟩]
  show (Int32.ofNat n).toInt = (n : Int)
  rw [Int32.toInt_ofNat_of_lt (by omega)]
theorem e_iald {a n : Nat} {g : Nat → Int} {tg : Tg} {i : Int} (hT : mT M pc = some (.iaload, 1)) (hc : h.1 a = some (tg, oArr 0 n g)) (i0 : 0 ≤ i) (i1 : i < n) (i2 : i ≤ 2147483647) (kk : Ex M d (pc + 1) l (J (g i.toNat) :: st) h Q) : Ex M d pc l (J i :: Rf a :: st) h Q := by
  refine ex_of kk fun o h' r => ?_
  intro D b0 la p e R s m args below meth c s0 C h1 h2 h3 h4 H locs ls hR hlo hA hl
  have hK := C.2.2.2.2.2.2.2.1.1
  exact W.iald (v := .int (Int32.ofInt (g i.toNat))) C.1 rfl (oAt_arr (hR.2.1 a tg _ hc).1) ((hK.2 0 _ (tysOf_at (ty := .int) rfl)).1 n _) (fun q => by cases q) (arr_in i0 i1 i2) (by rw [arr_rd i0 i1 i2]; rfl) rfl rfl (C.2.1 _ _ hT) (r D b0 la p e R s m args below meth c s0 C h1 h2 h3 h4 H locs ls hR hlo hA hl)
theorem e_zald {a n : Nat} {g : Nat → Int} {tg : Tg} {i : Int} (hT : mT M pc = some (.baload, 1)) (hc : h.1 a = some (tg, oArr 1 n g)) (i0 : 0 ≤ i) (i1 : i < n) (i2 : i ≤ 2147483647) (kk : Ex M d (pc + 1) l (J (g i.toNat) :: st) h Q) : Ex M d pc l (J i :: Rf a :: st) h Q := by
  refine ex_of kk fun o h' r => ?_
  intro D b0 la p e R s m args below meth c s0 C h1 h2 h3 h4 H locs ls hR hlo hA hl
  have hK := C.2.2.2.2.2.2.2.1.1
  exact W.zald (v := .int (Int32.ofInt (g i.toNat))) C.1 rfl (oAt_arr (hR.2.1 a tg _ hc).1) ((hK.2 1 _ (tysOf_at (ty := .boolean) rfl)).1 n _) (fun q => by cases q) (arr_in i0 i1 i2) (by rw [arr_rd i0 i1 i2]; rfl) rfl rfl (C.2.1 _ _ hT) (r D b0 la p e R s m args below meth c s0 C h1 h2 h3 h4 H locs ls hR hlo hA hl)
theorem e_bald {a n : Nat} {g : Nat → Int} {tg : Tg} {i : Int} (hT : mT M pc = some (.baload, 1)) (hc : h.1 a = some (tg, oArr 2 n g)) (i0 : 0 ≤ i) (i1 : i < n) (i2 : i ≤ 2147483647) (kk : Ex M d (pc + 1) l (J (g i.toNat) :: st) h Q) : Ex M d pc l (J i :: Rf a :: st) h Q := by
  refine ex_of kk fun o h' r => ?_
  intro D b0 la p e R s m args below meth c s0 C h1 h2 h3 h4 H locs ls hR hlo hA hl
  have hK := C.2.2.2.2.2.2.2.1.1
  exact W.bald (v := .int (Int32.ofInt (g i.toNat))) C.1 rfl (oAt_arr (hR.2.1 a tg _ hc).1) ((hK.2 2 _ (tysOf_at (ty := .byte) rfl)).1 n _) (fun q => by cases q) (arr_in i0 i1 i2) (by rw [arr_rd i0 i1 i2]; rfl) rfl rfl (C.2.1 _ _ hT) (r D b0 la p e R s m args below meth c s0 C h1 h2 h3 h4 H locs ls hR hlo hA hl)
theorem e_lald {a n : Nat} {g : Nat → Int} {tg : Tg} {i : Int} (hT : mT M pc = some (.laload, 1)) (hc : h.1 a = some (tg, oArr 3 n g)) (i0 : 0 ≤ i) (i1 : i < n) (i2 : i ≤ 2147483647) (kk : Ex M d (pc + 1) l (G (g i.toNat) :: st) h Q) : Ex M d pc l (J i :: Rf a :: st) h Q := by
  refine ex_of kk fun o h' r => ?_
  intro D b0 la p e R s m args below meth c s0 C h1 h2 h3 h4 H locs ls hR hlo hA hl
  have hK := C.2.2.2.2.2.2.2.1.1
  exact W.lald (v := .long (Int64.ofInt (g i.toNat))) C.1 rfl (oAt_arr (hR.2.1 a tg _ hc).1) ((hK.2 3 _ (tysOf_at (ty := .long) rfl)).1 n _) (fun q => by cases q) (arr_in i0 i1 i2) (by rw [arr_rd i0 i1 i2]; rfl) rfl rfl (C.2.1 _ _ hT) (r D b0 la p e R s m args below meth c s0 C h1 h2 h3 h4 H locs ls hR hlo hA hl)
theorem e_aald {a t n : Nat} {g : Nat → Option Nat} {tg : Tg} {i : Int} (hT : mT M pc = some (.aaload, 1)) (hc : h.1 a = some (tg, oRef t n g)) (ht : ∃ ty, ATs[t]? = some ty ∧ ty.isReference = true) (i0 : 0 ≤ i) (i1 : i < n) (i2 : i ≤ 2147483647) (kk : Ex M d (pc + 1) l (Ro (g i.toNat) :: st) h Q) : Ex M d pc l (J i :: Rf a :: st) h Q := by
  refine ex_of kk fun o h' r => ?_
  intro D b0 la p e R s m args below meth c s0 C h1 h2 h3 h4 H locs ls hR hlo hA hl
  have hK := C.2.2.2.2.2.2.2.1.1
  obtain ⟨ty, hty, hrf⟩ := ht
  exact W.aald (v := va_rf (g i.toNat)) C.1 rfl (oAt_arr (hR.2.1 a tg _ hc).1) ((hK.2 t _ (tysOf_at hty)).1 n _) hrf (fun q => by cases q) (arr_in i0 i1 i2) (by rw [arr_rd i0 i1 i2]; rfl) rfl rfl (C.2.1 _ _ hT) (r D b0 la p e R s m args below meth c s0 C h1 h2 h3 h4 H locs ls hR hlo hA hl)
theorem e_iast {a n : Nat} {g : Nat → Int} {tg : Tg} {i x : Int} (hT : mT M pc = some (.iastore, 1)) (hc : h.1 a = some (tg, oArr 0 n g)) (t0 : tg.1 ≠ 0) (i0 : 0 ≤ i) (i1 : i < n) (i2 : i ≤ 2147483647) (kk : Ex M d (pc + 1) l st (hset h a (tg, oArr 0 n (va_up g i.toNat x))) Q) : Ex M d pc l (J x :: J i :: Rf a :: st) h Q := by
  refine ex_on (fun w => w.set (w a _ hc)) (Grow.rf h) kk fun o h' g9 r => ?_
  intro D b0 la p e R s m args below meth c s0 C h1 h2 h3 h4 H locs ls hR hlo hA hl
  have hK := C.2.2.2.2.2.2.2.1.1
  have hba := (hR.2.1 a tg _ hc).2 t0
  refine W.iast C.1 rfl (oAt_arr (hR.2.1 a tg _ hc).1) ((hK.2 0 _ (tysOf_at (ty := .int) rfl)).1 n _) (fun q => by cases q) (arr_in i0 i1 i2) rfl rfl (C.2.1 _ _ hT) fun H1 e9 z oq => ?_
  refine r D b0 la p e R s m args below meth c s0 C h1 h2 h3 h4 H1 _ ls (hR.put hc (oAt_of ?_) z oq) ?_ ?_ hl
  · rw [e9, arrV_store, (ix_in i0 i1 i2).2, az_upI 0 (by decide)]
  · intro z hz
    rcases List.mem_append.mp hz with hz | hz
    · exact hlo z hz
    · rw [List.mem_singleton.mp hz]; exact hba
  · intro q hq
    rw [oq q (Nat.ne_of_lt (Nat.lt_of_lt_of_le hq hba))]
    exact hA q hq
theorem e_zast {a n : Nat} {g : Nat → Int} {tg : Tg} {i x : Int} (hT : mT M pc = some (.bastore, 1)) (hc : h.1 a = some (tg, oArr 1 n g)) (t0 : tg.1 ≠ 0) (i0 : 0 ≤ i) (i1 : i < n) (i2 : i ≤ 2147483647) (hv : x = 0 ∨ x = 1) (kk : Ex M d (pc + 1) l st (hset h a (tg, oArr 1 n (va_up g i.toNat x))) Q) : Ex M d pc l (J x :: J i :: Rf a :: st) h Q := by
  refine ex_on (fun w => w.set (w a _ hc)) (Grow.rf h) kk fun o h' g9 r => ?_
  intro D b0 la p e R s m args below meth c s0 C h1 h2 h3 h4 H locs ls hR hlo hA hl
  have hK := C.2.2.2.2.2.2.2.1.1
  have hba := (hR.2.1 a tg _ hc).2 t0
  refine W.zast C.1 rfl (oAt_arr (hR.2.1 a tg _ hc).1) ((hK.2 1 _ (tysOf_at (ty := .boolean) rfl)).1 n _) (fun q => by cases q) (arr_in i0 i1 i2) rfl rfl (C.2.1 _ _ hT) fun H1 e9 z oq => ?_
  refine r D b0 la p e R s m args below meth c s0 C h1 h2 h3 h4 H1 _ ls (hR.put hc (oAt_of ?_) z oq) ?_ ?_ hl
  · rw [e9, arrV_store, (ix_in i0 i1 i2).2, show narrow .boolean (.int (Int32.ofInt x)) = .int (Int32.ofInt x) from (pn_bool hv).1, az_upI 1 (by decide)]
  · intro z hz
    rcases List.mem_append.mp hz with hz | hz
    · exact hlo z hz
    · rw [List.mem_singleton.mp hz]; exact hba
  · intro q hq
    rw [oq q (Nat.ne_of_lt (Nat.lt_of_lt_of_le hq hba))]
    exact hA q hq
theorem e_bast {a n : Nat} {g : Nat → Int} {tg : Tg} {i x : Int} (hT : mT M pc = some (.bastore, 1)) (hc : h.1 a = some (tg, oArr 2 n g)) (t0 : tg.1 ≠ 0) (i0 : 0 ≤ i) (i1 : i < n) (i2 : i ≤ 2147483647) (hv : -128 ≤ x) (hv2 : x ≤ 127) (kk : Ex M d (pc + 1) l st (hset h a (tg, oArr 2 n (va_up g i.toNat x))) Q) : Ex M d pc l (J x :: J i :: Rf a :: st) h Q := by
  refine ex_on (fun w => w.set (w a _ hc)) (Grow.rf h) kk fun o h' g9 r => ?_
  intro D b0 la p e R s m args below meth c s0 C h1 h2 h3 h4 H locs ls hR hlo hA hl
  have hK := C.2.2.2.2.2.2.2.1.1
  have hba := (hR.2.1 a tg _ hc).2 t0
  refine W.bast C.1 rfl (oAt_arr (hR.2.1 a tg _ hc).1) ((hK.2 2 _ (tysOf_at (ty := .byte) rfl)).1 n _) (fun q => by cases q) (arr_in i0 i1 i2) rfl rfl (C.2.1 _ _ hT) fun H1 e9 z oq => ?_
  refine r D b0 la p e R s m args below meth c s0 C h1 h2 h3 h4 H1 _ ls (hR.put hc (oAt_of ?_) z oq) ?_ ?_ hl
  · rw [e9, arrV_store, (ix_in i0 i1 i2).2, show narrow .byte (.int (Int32.ofInt x)) = .int (Int32.ofInt x) from (pn_byte hv hv2).1, az_upI 2 (by decide)]
  · intro z hz
    rcases List.mem_append.mp hz with hz | hz
    · exact hlo z hz
    · rw [List.mem_singleton.mp hz]; exact hba
  · intro q hq
    rw [oq q (Nat.ne_of_lt (Nat.lt_of_lt_of_le hq hba))]
    exact hA q hq
theorem e_last {a n : Nat} {g : Nat → Int} {tg : Tg} {i x : Int} (hT : mT M pc = some (.lastore, 1)) (hc : h.1 a = some (tg, oArr 3 n g)) (t0 : tg.1 ≠ 0) (i0 : 0 ≤ i) (i1 : i < n) (i2 : i ≤ 2147483647) (kk : Ex M d (pc + 1) l st (hset h a (tg, oArr 3 n (va_up g i.toNat x))) Q) : Ex M d pc l (G x :: J i :: Rf a :: st) h Q := by
  refine ex_on (fun w => w.set (w a _ hc)) (Grow.rf h) kk fun o h' g9 r => ?_
  intro D b0 la p e R s m args below meth c s0 C h1 h2 h3 h4 H locs ls hR hlo hA hl
  have hK := C.2.2.2.2.2.2.2.1.1
  have hba := (hR.2.1 a tg _ hc).2 t0
  refine W.last C.1 rfl (oAt_arr (hR.2.1 a tg _ hc).1) ((hK.2 3 _ (tysOf_at (ty := .long) rfl)).1 n _) (fun q => by cases q) (arr_in i0 i1 i2) rfl rfl (C.2.1 _ _ hT) fun H1 e9 z oq => ?_
  refine r D b0 la p e R s m args below meth c s0 C h1 h2 h3 h4 H1 _ ls (hR.put hc (oAt_of ?_) z oq) ?_ ?_ hl
  · rw [e9, arrV_store, (ix_in i0 i1 i2).2, az_upL]
  · intro z hz
    rcases List.mem_append.mp hz with hz | hz
    · exact hlo z hz
    · rw [List.mem_singleton.mp hz]; exact hba
  · intro q hq
    rw [oq q (Nat.ne_of_lt (Nat.lt_of_lt_of_le hq hba))]
    exact hA q hq
/-- a class that may lie in an array of class E: an object of class ci -/
def CanO (E : String) (ci : Nat) : Prop := ∃ (r : vw_C), CL[ci]? = some r ∧ ci < 50 ∧ (r.1 = E ∨ Cond.castable r.1 E ∈ lw_tbl)
/-- an array of kind t2 -/
def CanA (E : String) (t2 : Nat) : Prop := ∃ ty, ATs[t2]? = some ty ∧ (("[" ++ ty.toString) = E ∨ Cond.castable ("[" ++ ty.toString) E ∈ lw_tbl)
def Can (E : String) (o : Obj) : Prop := match o with
  | .inl (t2, _, _) => CanA E t2
  | .inr (ci, _) => CanO E ci
theorem can_any {D : GD} {b0 : Nat} {s : State} {E : String} {v : Nat} {ov : Obj} {H : Heap} (hK : Kn D b0 s) (hv : oAt D v ov H) (hc : Can E ov) : va_Any E s H v := by
  rcases ov with ⟨t2, n2, c2⟩ | ⟨ci, fs⟩
  · obtain ⟨ty, hty, hq⟩ := hc
    have h1 := oAt_arr hv
    have hA := (hK.1.2 t2 _ (tysOf_at hty)).1 n2 (az t2 c2)
    obtain ⟨-, kk, hk, hkk⟩ := hA
    have h3 : s.vm.findClass ("[" ++ ty.toString) = some (D.2.1 t2) := by
      have h4 := (hK.1.2 t2 _ (tysOf_at hty)).2
      cases ty with
      | object C => obtain ⟨_, _, -, -, -, h5⟩ := h4; exact h5
      | _ => exact h4
    refine ⟨_, h1, rfl, ⟨kk, hk⟩, fun comp hcomp => ?_⟩
    rcases hq with e | e
    · subst e
      cases Option.some.inj (h3.symm.trans hcomp)
      exact va_asg _ _
    · obtain ⟨c3, c4, hc3, hc4, hasg⟩ := Cond.castable_spec (hK.2.1 _ e rfl)
      cases Option.some.inj (hc4.symm.trans hcomp)
      cases Option.some.inj (hc3.symm.trans h3)
      exact hasg
  · obtain ⟨r, hr, hci, hq⟩ := hc
    have hP := rp_P hv hci
    refine va_rAny hK.1 hP (q0 := 0) rfl hr fun comp c0 hcomp hc0 => ?_
    rcases hq with e | e
    · subst e
      have h9 := (hK.1.1 ci r hr).2
      cases Option.some.inj (hcomp.symm.trans hc0)
      cases Option.some.inj (hc0.symm.trans h9.1)
      exact va_assign h9
    · obtain ⟨c3, c4, hc3, hc4, hasg⟩ := Cond.castable_spec (hK.2.1 _ e rfl)
      cases Option.some.inj (hc3.symm.trans hc0)
      cases Option.some.inj (hc4.symm.trans hcomp)
      exact hasg
theorem e_aast {a t n v : Nat} {g : Nat → Option Nat} {tg tv : Tg} {E : String} {ov : Obj} {i : Int} (hT : mT M pc = some (.aastore, 1)) (hc : h.1 a = some (tg, oRef t n g)) (ht : ATs[t]? = some (.object E)) (hv : h.1 v = some (tv, ov)) (hcan : Can E ov) (t0 : tg.1 ≠ 0) (i0 : 0 ≤ i) (i1 : i < n) (i2 : i ≤ 2147483647) (kk : Ex M d (pc + 1) l st (hset h a (tg, oRef t n (va_up g i.toNat (some v)))) Q) : Ex M d pc l (Rf v :: J i :: Rf a :: st) h Q := by
  refine ex_on (fun w => w.set (w a _ hc)) (Grow.rf h) kk fun o h' g9 r => ?_
  intro D b0 la p e R s m args below meth c s0 C h1 h2 h3 h4 H locs ls hR hlo hA hl
  have hK := C.2.2.2.2.2.2.2.1.1
  have hba := (hR.2.1 a tg _ hc).2 t0
  obtain ⟨cellV, g1, g3, ⟨kC, hkC⟩, hasg⟩ := can_any C.2.2.2.2.2.2.2.1 (hR.2.1 v tv _ hv).1 hcan
  obtain ⟨kA, comp, k1, k2, k3, -⟩ := (hK.2 t _ (tysOf_at ht)).2
  obtain ⟨kE, hkE, -⟩ := Vm.findClass_spec k3
  refine W.aast C.1 rfl (oAt_arr (hR.2.1 a tg _ hc).1) (fun q h => by cases h) (fun h => by cases h) k1 k2 rfl hkE ⟨fun q => arr_in (cA := D.2.1 t) (z := az t (.inr g)) i0 i1 i2 (Or.inl q), by rw [arrV_size, (ix_in i0 i1 i2).2]; omega⟩ g1 (fun q h => by rw [h] at g3; cases g3) hkC (hasg _ k3) rfl rfl (C.2.1 _ _ hT) fun H1 e9 z oq => ?_
  refine r D b0 la p e R s m args below meth c s0 C h1 h2 h3 h4 H1 _ ls (hR.put hc (oAt_of ?_) z oq) ?_ ?_ hl
  · rw [e9, arrV_store, (ix_in i0 i1 i2).2, show Value.ref v = va_rf (some v) from rfl, az_upR]
  · intro z hz
    rcases List.mem_append.mp hz with hz | hz
    · exact hlo z hz
    · rw [List.mem_singleton.mp hz]; exact hba
  · intro q hq
    rw [oq q (Nat.ne_of_lt (Nat.lt_of_lt_of_le hq hba))]
    exact hA q hq
theorem e_aastN {a t n : Nat} {g : Nat → Option Nat} {tg : Tg} {E : String} {i : Int} (hT : mT M pc = some (.aastore, 1)) (hc : h.1 a = some (tg, oRef t n g)) (ht : ATs[t]? = some (.object E)) (t0 : tg.1 ≠ 0) (i0 : 0 ≤ i) (i1 : i < n) (i2 : i ≤ 2147483647) (kk : Ex M d (pc + 1) l st (hset h a (tg, oRef t n (va_up g i.toNat none))) Q) : Ex M d pc l (Rn :: J i :: Rf a :: st) h Q := by
  refine ex_on (fun w => w.set (w a _ hc)) (Grow.rf h) kk fun o h' g9 r => ?_
  intro D b0 la p e R s m args below meth c s0 C h1 h2 h3 h4 H locs ls hR hlo hA hl
  have hK := C.2.2.2.2.2.2.2.1.1
  have hba := (hR.2.1 a tg _ hc).2 t0
  refine va_WaastN (C := E) C.1 rfl (oAt_arr (hR.2.1 a tg _ hc).1) ((hK.2 t _ (tysOf_at ht)).1 n _) (fun q => by cases q) (arr_in i0 i1 i2) rfl rfl (C.2.1 _ _ hT) fun H1 e9 z oq => ?_
  refine r D b0 la p e R s m args below meth c s0 C h1 h2 h3 h4 H1 _ ls (hR.put hc (oAt_of ?_) z oq) ?_ ?_ hl
  · rw [e9, arrV_store, (ix_in i0 i1 i2).2, show Value.null = va_rf none from rfl, az_upR]
  · intro z hz
    rcases List.mem_append.mp hz with hz | hz
    · exact hlo z hz
    · rw [List.mem_singleton.mp hz]; exact hba
  · intro q hq
    rw [oq q (Nat.ne_of_lt (Nat.lt_of_lt_of_le hq hba))]
    exact hA q hq
/-- a new array of numbers of kind t -/
theorem e_newa {atype : ArrayType} {t : Nat} {ty : FieldType} {n : Int} (tg : Tg) (ht : ATs[t]? = some ty) (hty : newarray.typeOf atype = ty) (t4 : t < 4) (q9 : Cond.arrayClass ty ∈ lw_all) (hT : mT M pc = some (.newarray atype, 2)) (n0 : 0 ≤ n) (n1 : n ≤ 10000000) (kk : Ex M d (pc + 2) l (Rf h.2.1 :: st) (hnew h (tg, oArr t n.toNat (fun _ => 0)) n.toNat) Q) : Ex M d pc l (J n :: st) h Q := by
  refine ex_on (fun w => w.new) ⟨Nat.le_succ _, Nat.le_add_right _ _, rfl⟩ kk fun o h' g r => ?_
  intro D b0 la p e R s m args below meth c s0 C h1 h2 h3 h4 H locs ls hR hlo hA hl
  have hK := C.2.2.2.2.2.2.2.1.1
  have hb : b0 ≤ H.size := by rw [hR.1]; exact Nat.le_trans C.2.2.2.2.2.2.2.2.2.2.2.2.2 h3
  obtain ⟨ga, gb, gc⟩ := g
  have ga : h.2.1 + 1 ≤ h'.2.1 := ga
  have gb : h.2.2.1 + n.toNat ≤ h'.2.2.1 := gb
  have e9 : (Int32.ofInt n).toInt = n := toInt_ofInt32 ⟨by omega, by omega⟩
  have e8 : (Int32.ofInt n).toNatClampNeg = n.toNat := by show (Int32.ofInt n).toInt.toNat = n.toNat; rw [e9]
  subst hty
  have hbt : n.toNat * componentBytes (newarray.typeOf atype) ≤ 536870912 := by
    have h9 : componentBytes (newarray.typeOf atype) ≤ 8 := by cases atype <;> decide
    have h8 : n.toNat ≤ 10000000 := by omega
    have := Nat.mul_le_mul h8 h9
    omega
  refine va_newaK C.1 rfl (C.2.2.2.2.2.2.1 _ q9) rfl (C.2.1 _ _ hT) rfl (by rw [Int32.lt_iff_toInt_lt, e9]; show ¬ n < 0; omega) e8 hbt (by omega) (by omega) rfl fun H1 cA e1 z1 o1 hAr hNm => ?_
  have hcA : cA = D.2.1 t := by
    have a2 := (hK.2 t _ (tysOf_at ht)).2
    have h9 : s.vm.findClass ("[" ++ (newarray.typeOf atype).toString) = some (D.2.1 t) := by cases atype <;> exact a2
    have h8 : s.vm.findClass ("[" ++ (newarray.typeOf atype).toString) = some cA := by cases atype <;> exact hNm
    exact Option.some.inj (h8.symm.trans h9)
  have hz : H1[H.size]? = some (arrV (D.2.1 t) n.toNat (az t (.inl (fun _ => 0)))) := by
    rw [← az_zero t4 ht, ← hcA]
    exact e1
  have r1 := r D b0 la p e R s m args below meth c s0 C h1 h2 (show s.heap.size ≤ h.2.1 + 1 by omega) (show s0 ≤ h.2.2.1 + n.toNat by omega) H1 locs ls (hR.new (tg := tg) (n := n.toNat) hb (oAt_of hz) z1 o1) hlo (fun q hq => by rw [o1 q (by omega)]; exact hA q hq) hl
  have e3 : (hnew h (tg, oArr t n.toNat (fun _ => 0)) n.toNat).2.1 - s.heap.size = h.2.1 - s.heap.size + 1 := by show h.2.1 + 1 - s.heap.size = _; omega
  have e4 : (hnew h (tg, oArr t n.toNat (fun _ => 0)) n.toNat).2.2.1 - s0 = h.2.2.1 - s0 + n.toNat := by show h.2.2.1 + n.toNat - s0 = _; omega
  rw [e3, e4] at r1
  show W p la e R s m args below meth c H1 locs _ _ _ (F0 m (pc + 2) ls (Value.ref H.size :: st.map cv))
  rw [hR.1]
  exact r1
end AR
