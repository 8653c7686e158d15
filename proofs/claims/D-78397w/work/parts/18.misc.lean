/-! LAYER 1: what is thrown; casts; statics; copies -/
section MI
variable {M Mc : MD} {d pc : Nat} {l : Lc} {st : List AV} {h : AH} {Q : AO → AH → Prop}
theorem e_athrow {q : Nat} (hT : mT M pc = some (.athrow, 1)) (k : ExT M d pc l st h q Q) : Ex M d pc l (Rf q :: st) h Q := by
  intro w
  obtain ⟨o, h', q9, w', g, r⟩ := k w
  refine ⟨o, h', q9, w', g, ?_⟩
  intro D b0 la p e R s m args below meth c s0 C h1 h2 h3 h4 H locs ls hR hlo hA hl T hT9 X
  obtain ⟨t, a1, a2⟩ := r D b0 la p e R s m args below meth c s0 C h1 h2 h3 h4 H locs ls hR hlo hA hl T hT9 X
  refine ⟨t, ?_, a2⟩
  have hdg' := C.2.1 _ _ hT
  have hx := C.1
  show Steps p.tables e below (T.setTop (F0 m pc ls (Value.ref q :: st.map cv))) t
  jvm_step X.here [X.here.top, hx, hdg', athrow.wp_sem]
  exact a1
/-- no row of the method's table covers pc -/
def NoCover (M : MD) (pc : Nat) : Prop := ∀ x ∈ mH M, ¬ (x.1 ≤ pc ∧ pc < x.2.1)
theorem cov_no {M : MD} {pc : Nat} {c : Code} (hc : c.exceptionTable.toList.map (fun h => (h.startPc, h.endPc, h.handlerPc, h.catchType)) = mH M) (h : NoCover M pc) : ∀ x ∈ c.exceptionTable.toList, covers x pc = false := by
  intro x hx
  have hm : (x.startPc, x.endPc, x.handlerPc, x.catchType) ∈ mH M := by
    rw [← hc]; exact List.mem_map.mpr ⟨x, hx, rfl⟩
  have h1 := h _ hm
  unfold covers
  simp only [Bool.and_eq_false_iff, decide_eq_false_iff_not]
  by_cases h2 : x.startPc ≤ pc
  · right; exact fun h3 => h1 ⟨h2, h3⟩
  · left; exact h2
/-- not caught: it leaves the method -/
theorem e_prop {q ci : Nat} {fs : List AV} {tg : Tg} (hno : NoCover M pc) (hq : h.1 q = some (tg, oObj ci fs)) (hQ : Q (.inr q) h) : ExT M d pc l st h q Q := by
  intro w
  refine ⟨_, h, hQ, w, Grow.rf h, ?_⟩
  intro D b0 la p e R s m args below meth c s0 C h1 h2 h3 h4 H locs ls hR hlo hA hl T hT X
  obtain ⟨st1, hrun, hend, hW, hsm⟩ := X.leaveThrown q (g := F0 m pc ls (st.map cv)) rfl rfl rfl (cov_no C.2.2.2.2.2.2.2.2.2.2.1 hno) C.2.2.2.2.1
  exact ⟨_, st1, hrun, hend, by show Rp D b0 h T.heap; rw [hT]; exact hR, hW, locs, hsm, hlo⟩
/-- caught by the table's first row, of class ce -/
theorem e_catch {q ci hp ct : Nat} {fs : List AV} {tg : Tg} {C0 : String} {T0 : u_T} {N0 sp ep : Nat} (hH : ∃ rest, mH M = (sp, ep, hp, ct) :: rest) (hc1 : sp ≤ pc ∧ pc < ep) (hct : ct ≠ 0) (hq : h.1 q = some (tg, oObj ci fs)) (hci : CL[ci]? = some (C0, T0, N0)) (hc50 : ci < 50) (hlk : Cond.classLink (mY M).cls ct C0 ∈ lw_all) (hcs : Cond.castable C0 C0 ∈ lw_tbl)
    (k : Ex M d hp l [Rf q] h Q) : ExT M d pc l st h q Q := by
  intro w
  obtain ⟨o, h', q9, w', g, r⟩ := k w
  refine ⟨o, h', q9, w', g, ?_⟩
  intro D b0 la p e R s m args below meth c s0 C h1 h2 h3 h4 H locs ls hR hlo hA hl T hT X
  have hts := C.2.2.2.2.2.2.1
  have hown := C.2.2.2.2.2.1
  obtain ⟨rest, hH⟩ := hH
  have htab := C.2.2.2.2.2.2.2.2.2.2.1
  rw [hH] at htab
  obtain ⟨x, suf, hx1⟩ : ∃ x suf, c.exceptionTable.toList = x :: suf := by
    cases hz : c.exceptionTable.toList with
    | nil => rw [hz] at htab; cases htab
    | cons x suf => exact ⟨x, suf, rfl⟩
  rw [hx1] at htab
  have hx2 : (x.startPc, x.endPc, x.handlerPc, x.catchType) = (sp, ep, hp, ct) := (List.cons.inj htab).1
  obtain ⟨e1, e2, e3, e4⟩ : x.startPc = sp ∧ x.endPc = ep ∧ x.handlerPc = hp ∧ x.catchType = ct := by
    simpa using hx2
  obtain ⟨cell, g1, g2, g3⟩ := obj_cls C.2.2.2.2.2.2.2.1 (hR.2.1 q tg _ hq).1 hci hc50
  have hpl : e.platform.magicAccessors = ({} : Platform).magicAccessors := by rw [X.admits.platform]
  obtain ⟨c3, c4, hc3, hc4, hasg⟩ := Cond.castable_spec (va_Nw.use (A := args) rfl (C.2.2.2.2.2.2.2.1.2.1 _ hcs rfl))
  cases Option.some.inj (hc3.symm.trans g3)
  obtain ⟨c5, hc5, hcl5⟩ := Cond.classLink_spec hown (hts _ hlk) e.platform hpl
  cases Option.some.inj (hc4.symm.trans hc5)
  obtain ⟨vm', X', stp⟩ := X.thenCaughtThrough q (g := F0 m pc ls (st.map cv)) rfl (Steps.refl _) (by rw [hT]; exact g1) g2 (by obtain ⟨k9, h9, -⟩ := Vm.findClass_spec g3; exact ⟨k9, h9⟩) [] x suf hx1
    (fun z hz => by cases hz) (by unfold covers; simp only [Bool.and_eq_true, decide_eq_true_eq]; rw [e1, e2]; exact hc1) (Or.inr ⟨by rw [e4]; exact hct, c4, by rw [e4]; exact hcl5, hasg⟩)
  obtain ⟨t, a1, b1⟩ := r D b0 la p e R s m args below meth c s0 C h1 h2 h3 h4 H locs ls hR hlo hA hl (T.setVm vm') hT X'
  refine ⟨t, stp.trans ?_, b1⟩
  rw [e3]
  exact a1
/-- Object.<init> -/
theorem e_objInit {idx a : Nat} (q1 : Cond.methodLink (mY M).cls idx Lib.objectInit ∈ lw_all) (q2 : Cond.instanceMethod Lib.objectInit ∈ lw_all) (q3 : Cond.code Lib.objectInit ⟨#[0xb1]⟩ 1 none ∈ lw_all) (hT : mT M pc = some (.invokespecial idx, 3)) (hw : lwid st ≤ 8) (k : Ex M (d + 1) (pc + 3) l st h Q) : Ex M (d + 1) pc l (Rf a :: st) h Q := by
  refine ex_of k fun o h' r => ?_
  intro D b0 la p e R s m args below meth c s0 C h1 h2 h3 h4 H locs ls hR hlo hA hl
  have hts := C.2.2.2.2.2.2.1
  have hf := C.2.2.2.2.2.2.2.2.1
  have hlc := C.2.2.2.2.2.2.2.2.2.1
  refine W.objInit (a := a) (rest := st.map cv) C.1 rfl C.2.2.2.2.2.1 (hts _ q1) (hts _ q2) (hts _ q3) rfl (by show ls.size = _; rw [hl.1]; exact C.2.2.2.1.symm) rfl (C.2.1 _ _ hT) (by omega) (by rw [wt_st]; show 2 * 0 + lwid st + 12 ≤ _; omega) (r D b0 la p e R s m args below meth c s0 C h1 h2 h3 h4 H locs ls hR hlo hA hl)
theorem e_castN {idx : Nat} (hT : mT M pc = some (.checkcast idx, 3)) (k : Ex M d (pc + 3) l (Rn :: st) h Q) : Ex M d pc l (Rn :: st) h Q := by
  refine ex_of k fun o h' r => ?_
  intro D b0 la p e R s m args below meth c s0 C h1 h2 h3 h4 H locs ls hR hlo hA hl
  exact lv_castN C.1 rfl (C.2.1 _ _ hT) (r D b0 la p e R s m args below meth c s0 C h1 h2 h3 h4 H locs ls hR hlo hA hl)
theorem e_cast {idx a : Nat} {nm : String} {tg : Tg} {ov : Obj} (q1 : Cond.classLink (mY M).cls idx nm ∈ lw_all) (hT : mT M pc = some (.checkcast idx, 3)) (hc : h.1 a = some (tg, ov)) (hcan : Can nm ov) (k : Ex M d (pc + 3) l (Rf a :: st) h Q) : Ex M d pc l (Rf a :: st) h Q := by
  refine ex_of k fun o h' r => ?_
  intro D b0 la p e R s m args below meth c s0 C h1 h2 h3 h4 H locs ls hR hlo hA hl T hT9 X
  have hts := C.2.2.2.2.2.2.1
  obtain ⟨cell, g1, g2, -, g4⟩ := can_any C.2.2.2.2.2.2.2.1 (hR.2.1 a tg _ hc).1 hcan
  have hpl : e.platform.magicAccessors = ({} : Platform).magicAccessors := by rw [X.admits.platform]
  obtain ⟨c5, hc5, -⟩ := Cond.classLink_spec C.2.2.2.2.2.1 (hts _ q1) e.platform hpl
  obtain ⟨vm', X', stp⟩ := X.checkcastYes C.1 C.2.2.2.2.2.1 (hts _ q1) (by rw [hT9]; exact g1) g2 hc5 (g4 _ hc5) (g := F0 m pc ls ((Rf a :: st).map cv)) rfl (rest := st.map cv) rfl (C.2.1 _ _ hT)
  obtain ⟨t, a1, b1⟩ := r D b0 la p e R s m args below meth c s0 C h1 h2 h3 h4 H locs ls hR hlo hA hl (T.setVm vm') hT9 X'
  exact ⟨t, stp t a1, b1⟩
theorem e_gets {idx k : Nat} {C0 n0 d0 : String} {v : AV} (hk : STs[k]? = some (C0, n0, d0)) (hval : h.2.2.2 k = v) (q1 : Cond.fieldLink (mY M).cls idx C0 n0 d0 ∈ lw_all) (hT : mT M pc = some (.getstatic idx, 3)) (kk : Ex M d (pc + 3) l (v :: st) h Q) : Ex M d pc l st h Q := by
  subst hval
  refine ex_of kk fun o h' r => ?_
  intro D b0 la p e R s m args below meth c s0 C h1 h2 h3 h4 H locs ls hR hlo hA hl
  have hts := C.2.2.2.2.2.2.1
  have hZ := C.2.2.2.2.2.2.2.1.2.2.2.1 k _ hk
  have hv : D.2.2 k = h.2.2.2 k := congrFun hR.2.2 k
  rw [hv] at hZ
  obtain ⟨cf, kf, fi, f, a, cell, z1, z2, z3, z4, z5, z6, z7, z8⟩ := hZ
  exact W.gets C.1 rfl C.2.2.2.2.2.1 (hts _ q1) z1 z2 z3 z4 (by rw [hA a (Nat.lt_of_not_le z8)]; exact z5) (fun e => by rw [e] at z6; cases z6) z7 rfl (C.2.1 _ _ hT) (r D b0 la p e R s m args below meth c s0 C h1 h2 h3 h4 H locs ls hR hlo hA hl)
/-- a new array of references to class C0 -/
theorem e_anew {idx t : Nat} {C0 : String} {n : Int} (tg : Tg) (ht : ATs[t]? = some (.object C0)) (q1 : Cond.classLink (mY M).cls idx C0 ∈ lw_all) (q2 : Cond.arrayOver (.object C0) ∈ lw_tbl) (hT : mT M pc = some (.anewarray idx, 3)) (n0 : 0 ≤ n) (n1 : n ≤ 10000000) (kk : Ex M d (pc + 3) l (Rf h.2.1 :: st) (hnew h (tg, oRef t n.toNat (fun _ => none)) n.toNat) Q) : Ex M d pc l (J n :: st) h Q := by
  refine ex_on (fun w => w.new) ⟨Nat.le_succ _, Nat.le_add_right _ _, rfl⟩ kk fun o h' g r => ?_
  intro D b0 la p e R s m args below meth c s0 C h1 h2 h3 h4 H locs ls hR hlo hA hl
  have hts := C.2.2.2.2.2.2.1
  have hK := C.2.2.2.2.2.2.2.1.1
  have hb : b0 ≤ H.size := by rw [hR.1]; exact Nat.le_trans C.2.2.2.2.2.2.2.2.2.2.2.2.2 h3
  obtain ⟨ga, gb, gc⟩ := g
  have ga : h.2.1 + 1 ≤ h'.2.1 := ga
  have gb : h.2.2.1 + n.toNat ≤ h'.2.2.1 := gb
  have e9 : (Int32.ofInt n).toInt = n := toInt_ofInt32 ⟨by omega, by omega⟩
  have e8 : (Int32.ofInt n).toNatClampNeg = n.toNat := by show (Int32.ofInt n).toInt.toNat = n.toNat; rw [e9]
  refine W.anew (n := Int32.ofInt n) C.1 rfl C.2.2.2.2.2.1 (hts _ q1) (va_AO.use (C.2.2.2.2.2.2.2.1.2.1 _ q2 rfl)) rfl (C.2.1 _ _ hT) rfl (by rw [Int32.lt_iff_toInt_lt, e9]; show ¬ n < 0; omega) (by rw [e8]; omega) (by omega) (by rw [e8]; omega) fun cA kA comp f1 f2 f3 f4 => ?_
  have hcA : cA = D.2.1 t := by
    obtain ⟨_, _, -, -, -, h9⟩ := (hK.2 t _ (tysOf_at ht)).2
    exact Option.some.inj (f1.symm.trans h9)
  generalize hH1 : H.push ({ cls := cA, slots := Array.replicate (Int32.ofInt n).toNatClampNeg .null, vm := .none } : Cell) = H1
  have z1 : H1.size = H.size + 1 := by rw [← hH1, Array.size_push]
  have e1 : H1[H.size]? = some (arrV cA n.toNat (fun _ => .null)) := by rw [← hH1, Array.getElem?_push_size, ← arrV_new, e8]
  have o1 : ∀ q : Nat, q < H.size → H1[q]? = H[q]? := fun q hq => by rw [← hH1, Array.getElem?_push, if_neg (Nat.ne_of_lt hq)]
  have r1 := r D b0 la p e R s m args below meth c s0 C h1 h2 (show s.heap.size ≤ h.2.1 + 1 by omega) (show s0 ≤ h.2.2.1 + n.toNat by omega) H1 locs ls (hR.new (tg := tg) (n := n.toNat) hb (oAt_of (c := .inr (fun _ => none)) (by rw [e1, hcA]; rfl)) z1 o1) hlo (fun q hq => by rw [o1 q (by omega)]; exact hA q hq) hl
  have e3 : (hnew h (tg, oRef t n.toNat (fun _ => none)) n.toNat).2.1 - s.heap.size = h.2.1 - s.heap.size + 1 := by show h.2.1 + 1 - s.heap.size = _; omega
  have e4 : (hnew h (tg, oRef t n.toNat (fun _ => none)) n.toNat).2.2.1 - s0 = h.2.2.1 - s0 + (Int32.ofInt n).toNatClampNeg := by show h.2.2.1 + n.toNat - s0 = _; rw [e8]; omega
  rw [e3, e4] at r1
  show W p la e R s m args below meth c H1 locs _ _ _ (F0 m (pc + 3) ls (Value.ref H.size :: st.map cv))
  rw [hR.1]
  exact r1
def LkA (own : String) (idx : Nat) : Prop := Cond.methodLink own idx arraycopyName ∈ lw_all ∧ Cond.native arraycopyName ∈ lw_all ∧ Cond.static arraycopyName ∈ lw_all ∧ Cond.initialized "java/lang/System" ∈ lw_all
theorem nat_ix {i : Int} (h0 : 0 ≤ i) (h1 : i ≤ 2147483647) : ¬ Int32.ofInt i < 0 ∧ (Int32.ofInt i).toNatClampNeg = i.toNat ∧ (Int32.ofInt i).toInt = i := by
  have e : (Int32.ofInt i).toInt = i := toInt_ofInt32 ⟨by omega, by omega⟩
  refine ⟨by rw [Int32.lt_iff_toInt_lt, e]; show ¬ i < 0; omega, ?_, e⟩
  show (Int32.ofInt i).toInt.toNat = i.toNat
  rw [e]
theorem az_copy (t : Nat) (c1 : ClassId) (c0 : ClassId) {n0 n1 sp dp n : Nat} (f g : Nat → Int) (hs : sp + n ≤ n0) :
    (arrV c1 n1 (az t (.inl g))).storeRun dp ((arrV c0 n0 (az t (.inl f))).stretch sp n) = arrV c1 n1 (az t (.inl (va_cpy f g sp dp n))) := by
  by_cases ht : t = 3
  · have e : ∀ z : Nat → Int, az t (.inl z) = fun j => Value.long (Int64.ofInt (z j)) := fun z => by funext j; simp only [az, if_pos ht]
    rw [e, e, e]
    exact va_copied (fun z => Value.long (Int64.ofInt z)) c0 c1 f g hs
  · have e : ∀ z : Nat → Int, az t (.inl z) = fun j => Value.int (Int32.ofInt (z j)) := fun z => by funext j; simp only [az, if_neg ht]
    rw [e, e, e]
    exact va_copied (fun z => Value.int (Int32.ofInt z)) c0 c1 f g hs
/-- System.arraycopy of numbers of one kind; what a byte or boolean array holds fits it -/
theorem e_copyP {idx a0 a1 t n0 n1 : Nat} {tg0 tg1 : Tg} {f g : Nat → Int} {sp dp n : Int} (lk : LkA (mY M).cls idx) (hT : mT M pc = some (.invokestatic idx, 3)) (ha0 : h.1 a0 = some (tg0, oArr t n0 f)) (ha1 : h.1 a1 = some (tg1, oArr t n1 g)) (t1 : tg1.1 ≠ 0) (t4 : t < 4) (hfit : ∀ ty, ATs[t]? = some ty → ∀ i : Nat, i < n.toNat → fits ty (az t (.inl f) (sp.toNat + i)) = true)
    (s0 : 0 ≤ sp) (s1 : 0 ≤ dp) (s2 : 0 ≤ n) (s3 : sp + n ≤ n0) (s4 : dp + n ≤ n1) (s5 : (n0 : Int) ≤ 2147483647) (s6 : (n1 : Int) ≤ 2147483647) (hw : lwid st ≤ 8)
    (k : Ex M (d + 1) (pc + 3) l st (hset h a1 (tg1, oArr t n1 (va_cpy f g sp.toNat dp.toNat n.toNat))) Q) : Ex M (d + 1) pc l (J n :: J dp :: Rf a1 :: J sp :: Rf a0 :: st) h Q := by
  refine ex_on (fun w => w.set (w a1 _ ha1)) (Grow.rf h) k fun o h' g9 r => ?_
  intro D b0 la p e R s m args below meth c s9 C h1 h2 h3 h4 H locs ls hR hlo hA hl T hT9 X
  have hts := C.2.2.2.2.2.2.1
  have hK := C.2.2.2.2.2.2.2.1.1
  have hfr := C.2.2.2.2.2.2.2.2.1
  have hlc := C.2.2.2.2.2.2.2.2.2.1
  obtain ⟨lk1, lk2, lk3, lk4⟩ := lk
  obtain ⟨i1, i2, i3⟩ := nat_ix s0 (by omega)
  obtain ⟨j1, j2, j3⟩ := nat_ix s1 (by omega)
  obtain ⟨k1, k2, k3⟩ := nat_ix s2 (by omega)
  obtain ⟨ty, hty⟩ : ∃ ty, ATs[t]? = some ty := ⟨ATs[t]'(Nat.lt_trans t4 (by decide)), List.getElem?_eq_getElem _⟩
  have hprim : refKind ty = false := by
    have : t = 0 ∨ t = 1 ∨ t = 2 ∨ t = 3 := by omega
    rcases this with rfl | rfl | rfl | rfl <;> (cases Option.some.inj hty.symm) <;> rfl
  have c0 := oAt_arr (hR.2.1 a0 tg0 _ ha0).1
  have c1 := oAt_arr (hR.2.1 a1 tg1 _ ha1).1
  have hba := (hR.2.1 a1 tg1 _ ha1).2 t1
  obtain ⟨-, kk0, hk0, cm0, hkk0⟩ := (hK.2 t _ (tysOf_at hty)).1 n0 (az t (.inl f))
  obtain ⟨vm', X', step⟩ := X.arraycopy C.1 C.2.2.2.2.2.1 (hts _ lk1) (hts _ lk2) (hts _ lk3) (hts _ lk4) (src := a0) (dst := a1) (cs := arrV (D.2.1 t) n0 (az t (.inl f))) (cd := arrV (D.2.1 t) n1 (az t (.inl g))) (srcPos := Int32.ofInt sp) (destPos := Int32.ofInt dp) (n := Int32.ofInt n) (by rw [hT9]; exact c0) (by rw [hT9]; exact c1)
    (fun _ h => by cases h) (fun _ h => by cases h) (fun h => by cases h) (fun h => by cases h) hk0 hk0 hkk0 hkk0 (by simp [hprim]) i1 j1 k1
    (by rw [i3, k3, arrV_size]; omega) (by rw [j3, k3, arrV_size]; omega)
    (fun vm₁ _ i hi => by
      rw [k2] at hi
      have e0 : (arrV (D.2.1 t) n0 (az t (.inl f))).slots.getD ((Int32.ofInt sp).toNatClampNeg + i) .null = az t (.inl f) (sp.toNat + i) := by
        rw [i2, Array.getD_eq_getD_getElem?, arrV_read _ _ (by omega)]
        rfl
      rw [e0]
      refine ⟨hfit ty hty i hi, ?_⟩
      unfold az
      by_cases ht : t = 3
      · simp only [if_pos ht]; exact trivial
      · simp only [if_neg ht]; exact trivial)
    (g := F0 m pc ls ((J n :: J dp :: Rf a1 :: J sp :: Rf a0 :: st).map cv)) rfl (by show ls.size = _; rw [hl.1]; exact C.2.2.2.1.symm) (rest := st.map cv) rfl (C.2.1 _ _ hT) (by omega)
    (by rw [wt_st]; show 2 * 0 + lwid st + _ ≤ _; have : nativeFrameWords "java/lang/System" "arraycopy" 5 + 11 ≤ 40 := by decide +kernel
        omega)
  have e1 : copied (arrV (D.2.1 t) n0 (az t (.inl f))) (arrV (D.2.1 t) n1 (az t (.inl g))) (Int32.ofInt sp) (Int32.ofInt dp) (Int32.ofInt n) = arrV (D.2.1 t) n1 (az t (.inl (va_cpy f g sp.toNat dp.toNat n.toNat))) := by
    show (arrV (D.2.1 t) n1 (az t (.inl g))).storeRun (Int32.ofInt dp).toNatClampNeg ((arrV (D.2.1 t) n0 (az t (.inl f))).stretch (Int32.ofInt sp).toNatClampNeg (Int32.ofInt n).toNatClampNeg) = _
    rw [i2, j2, k2]
    exact az_copy t _ _ f g (by omega)
  rw [e1] at X' step
  have hal : a1 < H.size := (Array.getElem?_eq_some_iff.mp c1).1
  have hheap : ((T.setVm vm').setCell a1 (arrV (D.2.1 t) n1 (az t (.inl (va_cpy f g sp.toNat dp.toNat n.toNat))))).heap = H.setIfInBounds a1 (arrV (D.2.1 t) n1 (az t (.inl (va_cpy f g sp.toNat dp.toNat n.toNat)))) := by rw [← hT9]; rfl
  have oq : ∀ q : Nat, q ≠ a1 → (H.setIfInBounds a1 (arrV (D.2.1 t) n1 (az t (.inl (va_cpy f g sp.toNat dp.toNat n.toNat)))))[q]? = H[q]? := fun q hq => by simp [Array.getElem?_setIfInBounds, Ne.symm hq]
  obtain ⟨t9, b1, b2⟩ := r D b0 la p e R s m args below meth c s9 C h1 h2 h3 h4 _ _ ls (hR.put ha1 (oAt_of (c := .inl (va_cpy f g sp.toNat dp.toNat n.toNat)) (show (H.setIfInBounds a1 _)[a1]? = some _ by simp [Array.getElem?_setIfInBounds, hal])) (by simp) oq) (fun z hz => by
      rcases List.mem_append.mp hz with hz | hz
      · exact hlo z hz
      · obtain ⟨z9, -, hz9⟩ := List.mem_map.mp hz
        rw [← hz9]
        exact hba) (fun q hq => by rw [oq q (Nat.ne_of_lt (Nat.lt_of_lt_of_le hq hba))]; exact hA q hq) hl _ hheap X'
  exact ⟨t9, step t9 b1, b2⟩
/-- System.arraycopy of references: each one that is copied may lie there -/
theorem e_copyR {idx a0 a1 t t2 n0 n1 : Nat} {E E2 : String} {tg0 tg1 : Tg} {f g : Nat → Option Nat} {sp dp n : Int} (lk : LkA (mY M).cls idx) (hT : mT M pc = some (.invokestatic idx, 3)) (ha0 : h.1 a0 = some (tg0, oRef t2 n0 f)) (ha1 : h.1 a1 = some (tg1, oRef t n1 g)) (t1 : tg1.1 ≠ 0) (ht : ATs[t]? = some (.object E)) (ht2 : ATs[t2]? = some (.object E2))
    (hel : ∀ i : Nat, i < n.toNat → ∀ v, f (sp.toNat + i) = some v → ∃ tv ov, h.1 v = some (tv, ov) ∧ Can E ov)
    (s0 : 0 ≤ sp) (s1 : 0 ≤ dp) (s2 : 0 ≤ n) (s3 : sp + n ≤ n0) (s4 : dp + n ≤ n1) (s5 : (n0 : Int) ≤ 2147483647) (s6 : (n1 : Int) ≤ 2147483647) (hw : lwid st ≤ 8)
    (k : Ex M (d + 1) (pc + 3) l st (hset h a1 (tg1, oRef t n1 (va_cpy f g sp.toNat dp.toNat n.toNat))) Q) : Ex M (d + 1) pc l (J n :: J dp :: Rf a1 :: J sp :: Rf a0 :: st) h Q := by
  refine ex_on (fun w => w.set (w a1 _ ha1)) (Grow.rf h) k fun o h' g9 r => ?_
  intro D b0 la p e R s m args below meth c s9 C h1 h2 h3 h4 H locs ls hR hlo hA hl T hT9 X
  have hts := C.2.2.2.2.2.2.1
  have hK := C.2.2.2.2.2.2.2.1.1
  have hfr := C.2.2.2.2.2.2.2.2.1
  have hlc := C.2.2.2.2.2.2.2.2.2.1
  obtain ⟨lk1, lk2, lk3, lk4⟩ := lk
  obtain ⟨i1, i2, i3⟩ := nat_ix s0 (by omega)
  obtain ⟨j1, j2, j3⟩ := nat_ix s1 (by omega)
  obtain ⟨k1, k2, k3⟩ := nat_ix s2 (by omega)
  have c0 := oAt_arr (hR.2.1 a0 tg0 _ ha0).1
  have c1 := oAt_arr (hR.2.1 a1 tg1 _ ha1).1
  have hba := (hR.2.1 a1 tg1 _ ha1).2 t1
  obtain ⟨-, kk0, hk0, cm0, hkk0⟩ := (hK.2 t2 _ (tysOf_at ht2)).1 n0 (az t2 (.inr f))
  obtain ⟨-, kk1, hk1, cm1, hkk1⟩ := (hK.2 t _ (tysOf_at ht)).1 n1 (az t (.inr g))
  obtain ⟨vm', X', step⟩ := X.arraycopy C.1 C.2.2.2.2.2.1 (hts _ lk1) (hts _ lk2) (hts _ lk3) (hts _ lk4) (src := a0) (dst := a1) (cs := arrV (D.2.1 t2) n0 (az t2 (.inr f))) (cd := arrV (D.2.1 t) n1 (az t (.inr g))) (srcPos := Int32.ofInt sp) (destPos := Int32.ofInt dp) (n := Int32.ofInt n) (by rw [hT9]; exact c0) (by rw [hT9]; exact c1)
    (fun _ h => by cases h) (fun _ h => by cases h) (fun h => by cases h) (fun h => by cases h) hk0 hk1 hkk0 hkk1 (by simp [refKind]) i1 j1 k1
    (by rw [i3, k3, arrV_size]; omega) (by rw [j3, k3, arrV_size]; omega)
    (fun vm₁ hal i hi => by
      rw [k2] at hi
      have e0 : (arrV (D.2.1 t2) n0 (az t2 (.inr f))).slots.getD ((Int32.ofInt sp).toNatClampNeg + i) .null = va_rf (f (sp.toNat + i)) := by
        rw [i2, Array.getD_eq_getD_getElem?, arrV_read _ _ (by omega)]
        rfl
      rw [e0]
      cases hy : f (sp.toNat + i) with
      | none => exact ⟨rfl, trivial⟩
      | some y =>
        obtain ⟨tv, ov, hv1, hv2⟩ := hel i hi y hy
        obtain ⟨cellV, g1, g2, ⟨kC, hkC⟩, hasg⟩ := can_any C.2.2.2.2.2.2.2.1 (hR.2.1 y tv _ hv1).1 hv2
        obtain ⟨kA, comp, r1, r2, r3, -⟩ := (hK.2 t _ (tysOf_at ht)).2
        cases hk1.symm.trans r1
        cases hkk1.symm.trans r2
        obtain ⟨kE, hkE, -⟩ := Vm.findClass_spec r3
        obtain ⟨kC', hkC', -⟩ := hal.2.2 _ _ hkC
        obtain ⟨kE', hkE', -⟩ := hal.2.2 _ _ hkE
        refine ⟨rfl, cellV, (show T.heap[y]? = some cellV by rw [hT9]; exact g1), (fun q h => by rw [h] at g2; cases g2), ⟨kC', hkC'⟩, ?_, ?_⟩
        · exact ⟨kE', hkE'⟩
        · show vm₁.assignable _ _ = true
          rw [hal.assignable]
          exact hasg _ r3)
    (g := F0 m pc ls ((J n :: J dp :: Rf a1 :: J sp :: Rf a0 :: st).map cv)) rfl (by show ls.size = _; rw [hl.1]; exact C.2.2.2.1.symm) (rest := st.map cv) rfl (C.2.1 _ _ hT) (by omega)
    (by rw [wt_st]; show 2 * 0 + lwid st + _ ≤ _; have : nativeFrameWords "java/lang/System" "arraycopy" 5 + 11 ≤ 40 := by decide +kernel
        omega)
  have e1 : copied (arrV (D.2.1 t2) n0 (az t2 (.inr f))) (arrV (D.2.1 t) n1 (az t (.inr g))) (Int32.ofInt sp) (Int32.ofInt dp) (Int32.ofInt n) = arrV (D.2.1 t) n1 (az t (.inr (va_cpy f g sp.toNat dp.toNat n.toNat))) := by
    show (arrV (D.2.1 t) n1 (az t (.inr g))).storeRun (Int32.ofInt dp).toNatClampNeg ((arrV (D.2.1 t2) n0 (az t2 (.inr f))).stretch (Int32.ofInt sp).toNatClampNeg (Int32.ofInt n).toNatClampNeg) = _
    rw [i2, j2, k2]
    exact va_copied (fun z => va_rf z) _ _ f g (by omega)
  rw [e1] at X' step
  have hal : a1 < H.size := (Array.getElem?_eq_some_iff.mp c1).1
  have hheap : ((T.setVm vm').setCell a1 (arrV (D.2.1 t) n1 (az t (.inr (va_cpy f g sp.toNat dp.toNat n.toNat))))).heap = H.setIfInBounds a1 (arrV (D.2.1 t) n1 (az t (.inr (va_cpy f g sp.toNat dp.toNat n.toNat)))) := by rw [← hT9]; rfl
  have oq : ∀ q : Nat, q ≠ a1 → (H.setIfInBounds a1 (arrV (D.2.1 t) n1 (az t (.inr (va_cpy f g sp.toNat dp.toNat n.toNat)))))[q]? = H[q]? := fun q hq => by simp [Array.getElem?_setIfInBounds, Ne.symm hq]
  obtain ⟨t9, b1, b2⟩ := r D b0 la p e R s m args below meth c s9 C h1 h2 h3 h4 _ _ ls (hR.put ha1 (oAt_of (c := .inr (va_cpy f g sp.toNat dp.toNat n.toNat)) (show (H.setIfInBounds a1 _)[a1]? = some _ by simp [Array.getElem?_setIfInBounds, hal])) (by simp) oq) (fun z hz => by
      rcases List.mem_append.mp hz with hz | hz
      · exact hlo z hz
      · obtain ⟨z9, -, hz9⟩ := List.mem_map.mp hz
        rw [← hz9]
        exact hba) (fun q hq => by rw [oq q (Nat.ne_of_lt (Nat.lt_of_lt_of_le hq hba))]; exact hA q hq) hl _ hheap X'
  exact ⟨t9, step t9 b1, b2⟩
end MI
