/-! LAYER 1: class objects, String constants -/
section M2
variable {M Mc : MD} {d pc : Nat} {l : Lc} {st : List AV} {h : AH} {Q : AO → AH → Prop}
theorem e_ldcM {idx k mi : Nat} {C0 : String} (hk : MIs[k]? = some C0) (hm : h.2.2.2 (20 + k) = Rf mi) (q1 : Cond.classLink (mY M).cls idx C0 ∈ lw_all) (hT : mT M pc = some (.ldc idx, 2)) (kk : Ex M d (pc + 2) l (Rf mi :: st) h Q) : Ex M d pc l st h Q := by
  refine ex_of kk fun o h' r => ?_
  intro D b0 la p e R s m args below meth c s0 C h1 h2 h3 h4 H locs ls hR hlo hA hl
  have hts := C.2.2.2.2.2.2.1
  obtain ⟨mi', e1, e2⟩ := C.2.2.2.2.2.2.2.1.2.2.2.2.2.1 k C0 hk
  have hv : D.2.2 (20 + k) = h.2.2.2 (20 + k) := congrFun hR.2.2 _
  rw [hv, hm] at e1
  cases e1
  exact va_ldcM C.1 rfl C.2.2.2.2.2.1 (hts _ q1) e2 (C.2.1 _ _ hT) (r D b0 la p e R s m args below meth c s0 C h1 h2 h3 h4 H locs ls hR hlo hA hl)
theorem e_ldcS {idx k a : Nat} {tx : String} (hk : SKs[k]? = some ((mY M).cls, idx, tx)) (hm : h.2.2.2 (30 + k) = Rf a) (hT : mT M pc = some (.ldc idx, 2)) (kk : Ex M d (pc + 2) l (Rf a :: st) h Q) : Ex M d pc l st h Q := by
  refine ex_of kk fun o h' r => ?_
  intro D b0 la p e R s m args below meth c s0 C h1 h2 h3 h4 H locs ls hR hlo hA hl
  obtain ⟨a', e1, e2⟩ := C.2.2.2.2.2.2.2.1.2.2.2.2.2.2 k _ hk
  have hv : D.2.2 (30 + k) = h.2.2.2 (30 + k) := congrFun hR.2.2 _
  rw [hv, hm] at e1
  cases e1
  exact va_ldcS C.1 rfl C.2.2.2.2.2.1 e2 (C.2.1 _ _ hT) (r D b0 la p e R s m args below meth c s0 C h1 h2 h3 h4 H locs ls hR hlo hA hl)
abbrev yGetC : MethodName := ⟨"java/lang/Object", "getClass", "()Ljava/lang/Class;"⟩
/-- getClass of an array of references to C0 -/
theorem e_getC {idx k mi a t n : Nat} {C0 : String} {tg : Tg} {f : Nat → Option Nat} (ht : ATs[t]? = some (.object C0)) (hk : MIs[k]? = some ("[" ++ (FieldType.object C0).toString)) (hm : h.2.2.2 (20 + k) = Rf mi) (q1 : Cond.methodLink (mY M).cls idx yGetC ∈ lw_all) (q2 : Cond.declares yGetC ∈ lw_tbl) (q3 : Cond.selects ("[" ++ (FieldType.object C0).toString) yGetC yGetC ∈ lw_all) (q4 : Cond.instanceMethod yGetC ∈ lw_all) (q5 : Cond.native yGetC ∈ lw_all)
    (hT : mT M pc = some (.invokevirtual idx, 3)) (ha : h.1 a = some (tg, oRef t n f)) (hw : lwid st ≤ 8) (kk : Ex M (d + 1) (pc + 3) l (Rf mi :: st) h Q) : Ex M (d + 1) pc l (Rf a :: st) h Q := by
  refine ex_of kk fun o h' r => ?_
  intro D b0 la p e R s m args below meth c s0 C h1 h2 h3 h4 H locs ls hR hlo hA hl
  have hts := C.2.2.2.2.2.2.1
  have hK := C.2.2.2.2.2.2.2.1.1
  have hfr := C.2.2.2.2.2.2.2.2.1
  have hlc := C.2.2.2.2.2.2.2.2.2.1
  obtain ⟨mi', e1, e2⟩ := C.2.2.2.2.2.2.2.1.2.2.2.2.2.1 k _ hk
  have hv : D.2.2 (20 + k) = h.2.2.2 (20 + k) := congrFun hR.2.2 _
  rw [hv, hm] at e1
  cases e1
  have c0 := oAt_arr (hR.2.1 a tg _ ha).1
  have hnm : s.vm.findClass ("[" ++ (FieldType.object C0).toString) = some (D.2.1 t) := by
    obtain ⟨_, _, -, -, -, h9⟩ := (hK.2 t _ (tysOf_at ht)).2
    exact h9
  exact va_getC C.1 rfl (C.2.2.2.1.trans hl.1.symm) C.2.2.2.2.2.1 (hts _ q1) (va_Nw.use rfl (C.2.2.2.2.2.2.2.1.2.1 _ q2 rfl)) (hts _ q3) (hts _ q4) (hts _ q5) e2 ⟨_, c0, rfl, hnm⟩ (by omega) (by rw [wt_st]; omega) (C.2.1 _ _ hT) (r D b0 la p e R s m args below meth c s0 C h1 h2 h3 h4 H locs ls hR hlo hA hl)
end M2
