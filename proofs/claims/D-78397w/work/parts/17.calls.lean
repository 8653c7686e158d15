/-! LAYER 1: the kinds of call -/
/-- the machine comes from the calling instruction into the callee -/
def StT (p : Program) (la : Launch) (e : Env) (R : Room) (s : State) (m : MethodId) (args : Array Value) (below : List Frame) (meth : Method) (c : Code) (T : State) (locs : List Loc) (cells slots : Nat) (g : JFrame) (len : Nat) (y : MethodName) (av : List AV) (rest : List Value) : Prop :=
  ∃ (vm₁ : Vm) (mk : MethodId) (ig : Instr), Stand p la e R s m args below meth c (T.setVm vm₁) locs cells slots ∧ (T.setVm vm₁).methodNamed? y = some mk ∧ decode c.code g.pc = .ok (ig, len) ∧
    ∀ target, Steps p.tables e below (doInvoke e ((T.setVm vm₁).setTop { g with stack := rest }) [] mk (av.map cv).toArray).1 target → Steps p.tables e below (T.setTop g) target
theorem wt_st (st : List AV) : ((st.map cv).map fun v => v.category).sum = lwid st := by
  induction st with
  | nil => rfl
  | cons v t ih =>
    show (cv v).category + ((t.map cv).map fun v => v.category).sum = (bif isL v then 2 else 1) + lwid t
    rw [ih]
    congr 1
    cases hL : isL v with
    | true =>
      rcases v with a | a | a
      · cases hL
      · rfl
      · cases hL
    | false => exact cat1_cv hL
section CS
variable {M Mc : MD} {d pc : Nat} {l : Lc} {st : List AV} {h : AH} {Q : AO → AH → Prop}
/-- a call, of whatever kind -/
theorem e_call {dc len : Nat} {stk : List AV} {av : List AV} (hd : dc + 1 ≤ d)
    (hst : ∀ (D : GD) (b0 : Nat) (la : Launch) (p : Program) (e : Env) (R : Room) (s : State) (m : MethodId) (args : Array Value) (below : List Frame) (meth : Method) (c : Code), Cx M d D b0 la p R s m args meth c →
      ∀ (T : State) (locs : List Loc) (cells slots : Nat) (ls : Array Slot), Stand p la e R s m args below meth c T locs cells slots → Rp D b0 h T.heap → ls.size = mL M →
      StT p la e R s m args below meth c T locs cells slots (F0 m pc ls (stk.map cv)) len (mY Mc) av (st.map cv))
    (hw : lwid st ≤ 8) (hml : mL Mc ≤ 45) (hq : cwd Mc ∈ lw_all) (hini : Cond.initialized (mY Mc).cls ∈ lw_all)
    (k : Call Mc dc av h (fun o h1 => (∀ v, o = .inl v → Ex M d (pc + len) l (v.toList ++ st) h1 Q) ∧ (∀ q, o = .inr q → ExT M d pc l st h1 q Q))) :
    Ex M d pc l stk h Q := by
  intro w
  obtain ⟨o, h1, ⟨kq1, kq2⟩, w1, g1, hM⟩ := k w
  rcases o with v | q
  · obtain ⟨o2, h2, q2, w2, g2, r⟩ := kq1 v rfl w1
    refine ⟨o2, h2, q2, w2, g1.tr g2, ?_⟩
    intro D b0 la p e R s m args below meth c s0 C e1 e2 e3 e4 H locs ls hR hlo hA hl T hT X
    have hs : ls.size = mL M := hl.1
    obtain ⟨vm₁, mk, ig, X₁, hn, hdg, hgo⟩ := hst D b0 la p e R s m args below meth c C T locs _ _ ls X (by rw [hT]; exact hR) hs
    obtain ⟨ga, gb, gc⟩ := g1
    obtain ⟨gd, ge, gf⟩ := g2
    obtain ⟨U', L, X', hR', hL', hv, -⟩ := k_back (d' := dc) C hM hd hml hq hini X₁ (g := { F0 m pc ls (stk.map cv) with stack := st.map cv }) rfl (hs.trans C.2.2.2.1.symm) hdg (by rw [wt_st]; show 2 * 0 + lwid st ≤ 8; omega) hn (by omega) (by omega) (by show Rp D b0 h T.heap; rw [hT]; exact hR) hlo
    have hb := C.2.2.2.2.2.2.2.2.2.2.2.2.2
    have low := same_low X'.same hb hL'
    have c1 : h.2.1 - s.heap.size + (h1.2.1 - h.2.1) = h1.2.1 - s.heap.size := by omega
    have c2 : h.2.2.1 - s0 + (h1.2.2.1 - h.2.2.1) = h1.2.2.1 - s0 := by omega
    rw [c1, c2] at X'
    obtain ⟨t, a1, a2⟩ := r D b0 la p e R s m args below meth c s0 C e1 e2 (by omega) (by omega) U'.heap (locs ++ L) ls hR' hL' low hl U' rfl X'
    refine ⟨t, hgo t ((hv v rfl).trans ?_), a2⟩
    have e9 : (v.map cv).toList ++ st.map cv = (v.toList ++ st).map cv := by cases v <;> rfl
    show Steps p.tables e below (U'.setTop (F0 m (pc + len) ls ((v.map cv).toList ++ st.map cv))) t
    rw [e9]
    exact a1
  · obtain ⟨o2, h2, q2, w2, g2, r⟩ := kq2 q rfl w1
    refine ⟨o2, h2, q2, w2, g1.tr g2, ?_⟩
    intro D b0 la p e R s m args below meth c s0 C e1 e2 e3 e4 H locs ls hR hlo hA hl T hT X
    have hs : ls.size = mL M := hl.1
    obtain ⟨vm₁, mk, ig, X₁, hn, hdg, hgo⟩ := hst D b0 la p e R s m args below meth c C T locs _ _ ls X (by rw [hT]; exact hR) hs
    obtain ⟨ga, gb, gc⟩ := g1
    obtain ⟨gd, ge, gf⟩ := g2
    obtain ⟨U', L, X', hR', hL', -, hv⟩ := k_back (d' := dc) C hM hd hml hq hini X₁ (g := { F0 m pc ls (stk.map cv) with stack := st.map cv }) rfl (hs.trans C.2.2.2.1.symm) hdg (by rw [wt_st]; show 2 * 0 + lwid st ≤ 8; omega) hn (by omega) (by omega) (by show Rp D b0 h T.heap; rw [hT]; exact hR) hlo
    have hb := C.2.2.2.2.2.2.2.2.2.2.2.2.2
    have low := same_low X'.same hb hL'
    have c1 : h.2.1 - s.heap.size + (h1.2.1 - h.2.1) = h1.2.1 - s.heap.size := by omega
    have c2 : h.2.2.1 - s0 + (h1.2.2.1 - h.2.2.1) = h1.2.2.1 - s0 := by omega
    rw [c1, c2] at X'
    obtain ⟨t, a1, a2⟩ := r D b0 la p e R s m args below meth c s0 C e1 e2 (by omega) (by omega) U'.heap (locs ++ L) ls hR' hL' low hl U' rfl X'
    exact ⟨t, hgo t ((hv q rfl).trans a1), a2⟩
theorem cwd_sig {M : MD} {args : Array Value} {s : State} {mk : MethodId} (hn : s.methodNamed? (mY M) = some mk) (h : (cwd M).before args s = true) {n : Nat} (hp : (parseMethodDescriptor (mY M).desc).map (fun d => d.parameters.length) = some n) : ∃ meth c, s.vm.method? mk = some meth ∧ meth.code = some c ∧ n = meth.sig.parameters.length := by
  obtain ⟨meth, c, h1, h2, -, -, -, -, -, h8⟩ := cwd_spec hn h
  rw [h8] at hp
  exact ⟨meth, c, h1, h2, (Option.some.inj hp).symm⟩
theorem argrev {av : List AV} {b : Nat} {st : List AV} : ((av.reverse ++ Rf b :: st).map cv) = (av.map cv).reverse ++ .ref b :: st.map cv := by
  rw [List.map_append, List.map_reverse]; rfl
theorem argrev0 {av : List AV} {st : List AV} : ((av.reverse ++ st).map cv) = (av.map cv).reverse ++ st.map cv := by
  rw [List.map_append, List.map_reverse]
/-- an object of class C lies at b -/
theorem obj_cls {D : GD} {b0 : Nat} {s : State} {b ci N : Nat} {fs : List AV} {H : Heap} {C : String} {T : u_T} (hK : Kn D b0 s) (h : oAt D b (oObj ci fs) H) (hc : CL[ci]? = some (C, T, N)) (hci : ci < 50) : ∃ cell : Cell, H[b]? = some cell ∧ cell.vm.isStatics = false ∧ s.vm.findClass C = some cell.cls :=
  va_recv hK.1 (rp_P h hci) (q0 := 0) hc rfl
def plainH (y : MethodName) : Prop := y.cls ≠ "java/lang/invoke/MethodHandle" ∧ y.cls ≠ "java/lang/invoke/VarHandle"
def LkM (own : String) (idx : Nat) (y : MethodName) : Prop := Cond.methodLink own idx y ∈ lw_all ∨ ∃ host, Cond.methodLinkNest own idx y host ∈ lw_tbl
/-- what a call asks of the callee alone -/
def LkC (Mc : MD) (n : Nat) : Prop := cwd Mc ∈ lw_all ∧ Cond.initialized (mY Mc).cls ∈ lw_all ∧ plainH (mY Mc) ∧ (parseMethodDescriptor (mY Mc).desc).map (fun d => d.parameters.length) = some n ∧ mL Mc ≤ 45
def LkV (own : String) (idx : Nat) (Mc : MD) (ci n : Nat) : Prop := ∃ C T N, CL[ci]? = some (C, T, N) ∧ ci < 50 ∧ LkM own idx (mY Mc) ∧ Cond.instanceMethod (mY Mc) ∈ lw_all ∧ Cond.selects C (mY Mc) (mY Mc) ∈ lw_all ∧ LkC Mc n
theorem e_iv {dc : Nat} (hd : dc + 1 ≤ d) {idx ci n b : Nat} {fs av : List AV} {tg : Tg} (lk : LkV (mY M).cls idx Mc ci n) (hT : mT M pc = some (.invokevirtual idx, 3)) (hb : h.1 b = some (tg, oObj ci fs)) (hn : av.length = n) (hw : lwid st ≤ 8)
    (k : Call Mc dc (Rf b :: av) h (fun o h1 => (∀ v, o = .inl v → Ex M d (pc + 3) l (v.toList ++ st) h1 Q) ∧ (∀ q, o = .inr q → ExT M d pc l st h1 q Q))) : Ex M d pc l (av.reverse ++ Rf b :: st) h Q := by
  obtain ⟨Cn, Tn, N, hci, hc50, hlk, hin, hse, hcw, hini, hy, hpd, hml⟩ := lk
  refine e_call (Mc := Mc) hd ?_ hw hml hcw hini k
  intro D b0 la p e R s m args below meth c C T locs cells slots ls X hR hs
  have hts := C.2.2.2.2.2.2.1
  have hown := C.2.2.2.2.2.1
  obtain ⟨mk, methM, hnamed, hmethM, hstM, habM⟩ := Cond.instanceMethod_spec (hts _ hin)
  obtain ⟨methM', cM, hmethM', -, hlen⟩ := cwd_sig hnamed (hts _ hcw) hpd
  cases hmethM.symm.trans hmethM'
  obtain ⟨cellB, hcell, hobj, hcls⟩ := obj_cls C.2.2.2.2.2.2.2.1 (hR.2.1 b tg _ hb).1 hci hc50
  obtain ⟨c2, r2, m2, q1, q2, q3, q4, kP, hkP, hkPi⟩ := Cond.selects_spec (hts _ hse)
  cases hcls.symm.trans q1
  cases (State.methodFound?_of_named hnamed hy).symm.trans q2
  cases hnamed.symm.trans q3
  have hselP : selectMethod e.platform s.vm cellB.cls mk = .method mk := by rw [Launch.admits_selectMethod X.admits]; exact q4
  rcases hlk with e9 | ⟨host, e9⟩
  · obtain ⟨vm₁, X₁, hstep₁⟩ := X.invokevirtual C.1 hown (hts _ e9) hnamed hmethM hstM hkP hkPi hy (a := b) (cell := cellB) hcell
      (fun z h => by rw [h] at hobj; cases hobj) hselP hmethM habM hkP hkPi (g := F0 m pc ls ((av.reverse ++ Rf b :: st).map cv)) rfl (argsL := av.map cv) (rest := st.map cv) (by rw [List.length_map, hn]; exact hlen) argrev (C.2.1 _ _ hT)
    exact ⟨vm₁, mk, _, X₁, X₁.named hnamed, C.2.1 _ _ hT, fun target hh => hstep₁ _ fun acts => by rw [doInvoke_state]; exact hh⟩
  · obtain ⟨vm₁, X₁, hstep₁⟩ := X.invokevirtualNest C.1 hown (va_Nw.use rfl (C.2.2.2.2.2.2.2.1.2.1 _ e9 rfl)) hnamed hmethM hstM hkP hkPi hy (a := b) (cell := cellB) hcell
      (fun z h => by rw [h] at hobj; cases hobj) hselP hmethM habM hkP hkPi (g := F0 m pc ls ((av.reverse ++ Rf b :: st).map cv)) rfl (argsL := av.map cv) (rest := st.map cv) (by rw [List.length_map, hn]; exact hlen) argrev (C.2.1 _ _ hT)
    exact ⟨vm₁, mk, _, X₁, X₁.named hnamed, C.2.1 _ _ hT, fun target hh => hstep₁ _ fun acts => by rw [doInvoke_state]; exact hh⟩
def LkS (own : String) (idx : Nat) (Mc : MD) (n : Nat) : Prop := LkM own idx (mY Mc) ∧ Cond.static (mY Mc) ∈ lw_all ∧ LkC Mc n
theorem e_is {dc : Nat} (hd : dc + 1 ≤ d) {idx n : Nat} {av : List AV} (lk : LkS (mY M).cls idx Mc n) (hT : mT M pc = some (.invokestatic idx, 3)) (hn : av.length = n) (hw : lwid st ≤ 8)
    (k : Call Mc dc av h (fun o h1 => (∀ v, o = .inl v → Ex M d (pc + 3) l (v.toList ++ st) h1 Q) ∧ (∀ q, o = .inr q → ExT M d pc l st h1 q Q))) : Ex M d pc l (av.reverse ++ st) h Q := by
  obtain ⟨hlk, hst, hcw, hini, hy, hpd, hml⟩ := lk
  refine e_call (Mc := Mc) hd ?_ hw hml hcw hini k
  intro D b0 la p e R s m args below meth c C T locs cells slots ls X hR hs
  have hts := C.2.2.2.2.2.2.1
  have hown := C.2.2.2.2.2.1
  obtain ⟨mk, hnamed⟩ : ∃ mk, s.methodNamed? (mY Mc) = some mk := by
    have h9 := hts _ hcw
    unfold cwd at h9
    cases hh : mH Mc with
    | nil => rw [hh] at h9; exact Cond.code_named h9
    | cons a t => rw [hh] at h9; obtain ⟨m9, _, _, hn9, -⟩ := Cond.codeWith_spec h9; exact ⟨m9, hn9⟩
  obtain ⟨methM, cM, hmethM, -, hlen⟩ := cwd_sig hnamed (hts _ hcw) hpd
  have hstatic : methM.isStatic = true := Cond.static_spec hnamed hmethM (hts _ hst)
  obtain ⟨kP, hkP, -⟩ := className_of_methodNamed hnamed
  have hinitP : kP.init = .initialized := Cond.initialized_spec (findClass_of_methodNamed hnamed) hkP (hts _ hini)
  rcases hlk with e9 | ⟨host, e9⟩
  · obtain ⟨vm₁, X₁, hstep₁⟩ := X.invokestatic C.1 hown (hts _ e9) hnamed hmethM hstatic hkP hinitP hy (g := F0 m pc ls ((av.reverse ++ st).map cv)) rfl (argsL := av.map cv) (rest := st.map cv) (by rw [List.length_map, hn]; exact hlen) argrev0 (C.2.1 _ _ hT)
    exact ⟨vm₁, mk, _, X₁, X₁.named hnamed, C.2.1 _ _ hT, fun target hh => hstep₁ _ fun acts => by rw [doInvoke_state]; exact hh⟩
  · obtain ⟨vm₁, X₁, hstep₁⟩ := X.invokestaticNest C.1 hown (va_Nw.use rfl (C.2.2.2.2.2.2.2.1.2.1 _ e9 rfl)) hnamed hmethM hstatic hkP hinitP hy (g := F0 m pc ls ((av.reverse ++ st).map cv)) rfl (argsL := av.map cv) (rest := st.map cv) (by rw [List.length_map, hn]; exact hlen) argrev0 (C.2.1 _ _ hT)
    exact ⟨vm₁, mk, _, X₁, X₁.named hnamed, C.2.1 _ _ hT, fun target hh => hstep₁ _ fun acts => by rw [doInvoke_state]; exact hh⟩
def LkI (own : String) (idx : Nat) (Mc : MD) (n : Nat) : Prop := LkM own idx (mY Mc) ∧ Cond.instanceMethod (mY Mc) ∈ lw_all ∧ (mY Mc).name = "<init>" ∧ mR Mc = none ∧ mH Mc = [] ∧ LkC Mc n
theorem e_ii {dc : Nat} (hd : dc + 1 ≤ d) {idx n b : Nat} {av : List AV} (lk : LkI (mY M).cls idx Mc n) (hT : mT M pc = some (.invokespecial idx, 3)) (hn : av.length = n) (hw : lwid st ≤ 8)
    (k : Call Mc dc (Rf b :: av) h (fun o h1 => (∀ v, o = .inl v → Ex M d (pc + 3) l (v.toList ++ st) h1 Q) ∧ (∀ q, o = .inr q → ExT M d pc l st h1 q Q))) : Ex M d pc l (av.reverse ++ Rf b :: st) h Q := by
  obtain ⟨hlk, hin, hy1, hr, hh0, hcw, hini, hy, hpd, hml⟩ := lk
  refine e_call (Mc := Mc) hd ?_ hw hml hcw hini k
  intro D b0 la p e R s m args below meth c C T locs cells slots ls X hR hs
  have hts := C.2.2.2.2.2.2.1
  have hown := C.2.2.2.2.2.1
  have hcode : (Cond.code (mY Mc) (mC Mc) (mL Mc) none).before args s = true := by
    have h9 := hts _ hcw
    unfold cwd at h9
    rw [hh0, hr] at h9
    exact h9
  have hlen9 : ∀ sig, parseMethodDescriptor (mY Mc).desc = some sig → (av.map cv).length = sig.parameters.length := by
    intro sig hsig
    rw [hsig] at hpd
    rw [List.length_map, hn]
    exact (Option.some.inj hpd).symm
  have hpl : e.platform.magicAccessors = ({} : Platform).magicAccessors := by rw [X.admits.platform]
  rcases hlk with e9 | ⟨host, e9⟩
  · obtain ⟨mk, methM, cM, kP, vm₁, hnamed, hmethM, hcodeM, -, hlocalsM, -, hkP, -, hW₁, hstep₁⟩ := Steps.initColdArgs (e := e) X.here C.1 X.warmed hpl hown hy1 hy (hts _ e9) (hts _ hin) hcode (f := F0 m pc ls ((av.reverse ++ Rf b :: st).map cv)) rfl hlen9 argrev (C.2.1 _ _ hT)
    have X₁ := X.noted hW₁
    exact ⟨vm₁, mk, _, X₁, X₁.named hnamed, C.2.1 _ _ hT, fun target hh => hstep₁ _ fun acts => by rw [doInvoke_state]; exact hh⟩
  · obtain ⟨mk, methM, cM, kP, vm₁, hnamed, hmethM, hcodeM, -, hlocalsM, -, hkP, -, hW₁, hstep₁⟩ := Steps.initColdArgsNest (e := e) X.here C.1 X.warmed hpl hown hy1 hy (va_Nw.use rfl (C.2.2.2.2.2.2.2.1.2.1 _ e9 rfl)) (hts _ hin) hcode (f := F0 m pc ls ((av.reverse ++ Rf b :: st).map cv)) rfl hlen9 argrev (C.2.1 _ _ hT)
    have X₁ := X.noted hW₁
    exact ⟨vm₁, mk, _, X₁, X₁.named hnamed, C.2.1 _ _ hT, fun target hh => hstep₁ _ fun acts => by rw [doInvoke_state]; exact hh⟩
/-- through an interface; ci: the class of the object -/
def LkF (own : String) (idx : Nat) (x : MethodName) (Mc : MD) (ci n : Nat) : Prop := ∃ C T N, CL[ci]? = some (C, T, N) ∧ ci < 50 ∧ Cond.methodLink own idx x ∈ lw_all ∧ (C, x, mY Mc) ∈ FWs ∧ Cond.instanceMethod (mY Mc) ∈ lw_all ∧ Cond.selects C x (mY Mc) ∈ lw_all ∧ (parseMethodDescriptor x.desc).map (fun d => d.parameters.length) = some n ∧ LkC Mc n
theorem e_if {dc : Nat} (hd : dc + 1 ≤ d) {idx ci n b cnt : Nat} {x : MethodName} {fs av : List AV} {tg : Tg} (lk : LkF (mY M).cls idx x Mc ci n) (hT : mT M pc = some (.invokeinterface idx cnt, 5)) (hb : h.1 b = some (tg, oObj ci fs)) (hn : av.length = n) (hw : lwid st ≤ 8)
    (k : Call Mc dc (Rf b :: av) h (fun o h1 => (∀ v, o = .inl v → Ex M d (pc + 5) l (v.toList ++ st) h1 Q) ∧ (∀ q, o = .inr q → ExT M d pc l st h1 q Q))) : Ex M d pc l (av.reverse ++ Rf b :: st) h Q := by
  obtain ⟨Cn, Tn, N, hci, hc50, hlk, hfw, hin, hse, hpx, hcw, hini, hy, hpd, hml⟩ := lk
  refine e_call (Mc := Mc) hd ?_ hw hml hcw hini k
  intro D b0 la p e R s m args below meth c C T locs cells slots ls X hR hs
  have hts := C.2.2.2.2.2.2.1
  have hown := C.2.2.2.2.2.1
  obtain ⟨kF, hkF⟩ := List.getElem?_of_mem hfw
  have hx := fws_plain _ hfw
  obtain ⟨f1, f2, f3, f4, f5⟩ := C.2.2.2.2.2.2.2.1.2.2.2.2.1 kF _ hkF
  obtain ⟨cellB, hcell, hobj, hcls⟩ := obj_cls C.2.2.2.2.2.2.2.1 (hR.2.1 b tg _ hb).1 hci hc50
  obtain ⟨kB, hkB, -⟩ := Vm.findClass_spec hcls
  obtain ⟨r0, r, hn0, hrm, hstR, hsigR⟩ := Cond.declares_spec f1
  obtain ⟨cL, kL, r1, hcL, hkL, hiL, hfoundL, hn1⟩ := Cond.interfaceMethod_spec f2
  cases hn0.symm.trans hn1
  have hr0cls : r0.cls = cL := Option.some.inj ((findClass_of_methodNamed hn0).symm.trans hcL)
  obtain ⟨hnameR, hdescR⟩ := name_of_methodNamed hn0 hrm
  obtain ⟨mk, methM, hnamed, hmethM, -, habM⟩ := Cond.instanceMethod_spec (hts _ hin)
  obtain ⟨c2, r2, m2, q1, q2, q3, q4, -⟩ := Cond.selects_spec (hts _ hse)
  cases hcls.symm.trans q1
  cases hfoundL.symm.trans q2
  cases hnamed.symm.trans q3
  have hselP : selectMethod e.platform s.vm cellB.cls r0 = .method mk := by rw [Launch.admits_selectMethod X.admits]; exact q4
  have hpubM : hasFlag methM.accessFlags Acc.public_ = true := Cond.publicMethod_spec hnamed hmethM f3
  have hway : ((cellB.cls :: s.vm.superclasses cellB.cls).any fun k => (declaredIn s.vm r.name r.desc k).any fun (_, z) => z.isPrivate || z.isStatic) = false := by
    rw [hnameR, hdescR]; exact Cond.unhidden_spec hcls f4
  obtain ⟨c3, t3, w1, w2, w3⟩ := Cond.castable_spec f5
  cases hcls.symm.trans w1
  cases hcL.symm.trans w2
  have hlen9 : (av.map cv).length = r.sig.parameters.length := by
    have hsR : parseMethodDescriptor x.desc = some r.sig := hsigR
    rw [hsR] at hpx
    rw [List.length_map, hn]
    exact (Option.some.inj hpx).symm
  obtain ⟨vm₁, X₁, hstep₁⟩ := X.invokeinterface C.1 hown (hts _ hlk) hn0 hrm hstR (by rw [hr0cls]; exact hkL) hiL hx (a := b) (cell := cellB) (kcell := kB) hcell
    (fun z h => by rw [h] at hobj; cases hobj) hkB (by rw [hr0cls]; exact w3) hselP hmethM hway hpubM habM (g := F0 m pc ls ((av.reverse ++ Rf b :: st).map cv)) rfl (argsL := av.map cv) (rest := st.map cv) hlen9 argrev (C.2.1 _ _ hT)
  exact ⟨vm₁, mk, _, X₁, X₁.named hnamed, C.2.1 _ _ hT, fun target hh => hstep₁ _ fun acts => by rw [doInvoke_state]; exact hh⟩
/-- through a superclass's declaration (abstract, or overridden), or inherited; 'owner' declares it -/
def LkU (own : String) (idx : Nat) (x : MethodName) (owner : String) (Mc : MD) (ci n : Nat) : Prop := ∃ C T N, CL[ci]? = some (C, T, N) ∧ ci < 50 ∧ Cond.methodLink own idx x ∈ lw_all ∧ Cond.sameMethod x.cls owner x.name x.desc ∈ lw_all ∧
  (Cond.declares ⟨owner, x.name, x.desc⟩ ∈ lw_tbl ∨ ∃ Mo : MD, mY Mo = ⟨owner, x.name, x.desc⟩ ∧ mH Mo = [] ∧ Cond.instanceMethod (mY Mo) ∈ lw_all ∧ cwd Mo ∈ lw_all) ∧ (owner ≠ "java/lang/invoke/MethodHandle" ∧ owner ≠ "java/lang/invoke/VarHandle") ∧
  Cond.selects C x (mY Mc) ∈ lw_all ∧ Cond.instanceMethod (mY Mc) ∈ lw_all ∧ (parseMethodDescriptor x.desc).map (fun d => d.parameters.length) = some n ∧ LkC Mc n
theorem e_iu {dc : Nat} (hd : dc + 1 ≤ d) {idx ci n b : Nat} {x : MethodName} {owner : String} {fs av : List AV} {tg : Tg} (lk : LkU (mY M).cls idx x owner Mc ci n) (hT : mT M pc = some (.invokevirtual idx, 3)) (hb : h.1 b = some (tg, oObj ci fs)) (hn : av.length = n) (hw : lwid st ≤ 8)
    (k : Call Mc dc (Rf b :: av) h (fun o h1 => (∀ v, o = .inl v → Ex M d (pc + 3) l (v.toList ++ st) h1 Q) ∧ (∀ q, o = .inr q → ExT M d pc l st h1 q Q))) : Ex M d pc l (av.reverse ++ Rf b :: st) h Q := by
  obtain ⟨Cn, Tn, N, hci, hc50, hlk, hsm, hde, howner, hse, hin, hpx, hcw, hini, hy, hpd, hml⟩ := lk
  refine e_call (Mc := Mc) hd ?_ hw hml hcw hini k
  intro D b0 la p e R s m args below meth c C T locs cells slots ls X hR hs
  have hts := C.2.2.2.2.2.2.1
  have hown := C.2.2.2.2.2.1
  have hd0 : va_Decl s ⟨owner, x.name, x.desc⟩ := by
    rcases hde with e9 | ⟨Mo, e1, e2, e3, e4⟩
    · exact va_Decl.abs (C.2.2.2.2.2.2.2.1.2.1 _ e9 rfl)
    · have h9 := hts _ e4
      unfold cwd at h9
      rw [e2] at h9
      rw [← e1]
      exact va_Decl.of (hts _ e3) h9
  obtain ⟨r0, r, hn0, hrm, hstR, hsigR⟩ := hd0
  obtain ⟨cn, ck, r1, hcn, hck, hni, hf, hn1⟩ := Cond.sameMethod_found (hts _ hsm)
  cases hn0.symm.trans hn1
  obtain ⟨mk, methM, hnamed, hmethM, -, habM⟩ := Cond.instanceMethod_spec (hts _ hin)
  obtain ⟨cellB, hcell, hobj, hcls⟩ := obj_cls C.2.2.2.2.2.2.2.1 (hR.2.1 b tg _ hb).1 hci hc50
  obtain ⟨c2, r2, m2, q1, q2, q3, q4, kP, hkP, hkPi⟩ := Cond.selects_spec (hts _ hse)
  cases hcls.symm.trans q1
  cases hf.symm.trans q2
  cases hnamed.symm.trans q3
  have hselP : selectMethod e.platform s.vm cellB.cls r0 = .method mk := by rw [Launch.admits_selectMethod X.admits]; exact q4
  have hlen9 : (av.map cv).length = r.sig.parameters.length := by
    have hsR : parseMethodDescriptor x.desc = some r.sig := hsigR
    rw [hsR] at hpx
    rw [List.length_map, hn]
    exact (Option.some.inj hpx).symm
  obtain ⟨vm₁, X₁, hstep₁⟩ := X.invokevirtualUp C.1 hown (hts _ hlk) (hts _ hsm) howner hn0 hrm hstR (a := b) (cell := cellB) hcell
    (fun z h => by rw [h] at hobj; cases hobj) hselP hmethM habM hkP hkPi (g := F0 m pc ls ((av.reverse ++ Rf b :: st).map cv)) rfl (argsL := av.map cv) (rest := st.map cv) hlen9 argrev (C.2.1 _ _ hT)
  exact ⟨vm₁, mk, _, X₁, X₁.named hnamed, C.2.1 _ _ hT, fun target hh => hstep₁ _ fun acts => by rw [doInvoke_state]; exact hh⟩
/-- super.m(..) -/
def LkP (own : String) (idx : Nat) (Mc : MD) (n : Nat) : Prop := Cond.methodLink own idx (mY Mc) ∈ lw_all ∧ Cond.sameMethod (mY Mc).cls (mY Mc).cls (mY Mc).name (mY Mc).desc ∈ lw_all ∧ Cond.superclass own (mY Mc).cls ∈ lw_all ∧ Cond.instanceMethod (mY Mc) ∈ lw_all ∧ (mY Mc).name ≠ "<init>" ∧ LkC Mc n
theorem e_ip {dc : Nat} (hd : dc + 1 ≤ d) {idx ci n b : Nat} {fs av : List AV} {tg : Tg} (lk : LkP (mY M).cls idx Mc n) (hT : mT M pc = some (.invokespecial idx, 3)) (hb : h.1 b = some (tg, oObj ci fs)) (hci : ∃ q, CL[ci]? = some q ∧ ci < 50) (hn : av.length = n) (hw : lwid st ≤ 8)
    (k : Call Mc dc (Rf b :: av) h (fun o h1 => (∀ v, o = .inl v → Ex M d (pc + 3) l (v.toList ++ st) h1 Q) ∧ (∀ q, o = .inr q → ExT M d pc l st h1 q Q))) : Ex M d pc l (av.reverse ++ Rf b :: st) h Q := by
  obtain ⟨hlk, hsm, hsup, hin, hno, hcw, hini, hy, hpd, hml⟩ := lk
  refine e_call (Mc := Mc) hd ?_ hw hml hcw hini k
  intro D b0 la p e R s m args below meth c C T locs cells slots ls X hR hs
  have hts := C.2.2.2.2.2.2.1
  have hown := C.2.2.2.2.2.1
  obtain ⟨⟨Cn, Tn, Nn⟩, hcl, hc50⟩ := hci
  obtain ⟨cellB, hcell, hobj, hcls⟩ := obj_cls C.2.2.2.2.2.2.2.1 (hR.2.1 b tg _ hb).1 hcl hc50
  obtain ⟨kB, hkB, -⟩ := Vm.findClass_spec hcls
  obtain ⟨mk, methM, hnamed, hmethM, hstM, habM⟩ := Cond.instanceMethod_spec (hts _ hin)
  obtain ⟨methM', cM, hmethM', -, hlen⟩ := cwd_sig hnamed (hts _ hcw) hpd
  cases hmethM.symm.trans hmethM'
  obtain ⟨ps, dk, kp, hps, hdk, hkp, hsuper, -, -, hnid⟩ := Cond.superclass_spec hown (hts _ hsup)
  have hn9 : s.methodNamed? ⟨(mY Mc).cls, (mY Mc).name, (mY Mc).desc⟩ = some mk := hnamed
  have hpm : ps = mk.cls := Option.some.inj (hps.symm.trans (findClass_of_methodNamed hnamed))
  have hsub : s.vm.isSubclass ps mk.cls = true := by rw [hpm]; simp [Vm.isSubclass, Vm.isSubclassAux]
  obtain ⟨vm₁, X₁, hstep₁⟩ := X.invokespecialUp C.1 hown (hts _ hlk) (hts _ hsm) hn9 hmethM hstM habM hno hdk hnid hps hsuper hsub (a := b) (cell := cellB) hcell
    (fun z h => by rw [h] at hobj; cases hobj) hkB (g := F0 m pc ls ((av.reverse ++ Rf b :: st).map cv)) rfl (argsL := av.map cv) (rest := st.map cv) (by rw [List.length_map, hn]; exact hlen) argrev (C.2.1 _ _ hT)
  exact ⟨vm₁, mk, _, X₁, X₁.named hnamed, C.2.1 _ _ hT, fun target hh => hstep₁ _ (by rw [doInvoke_state]; exact hh)⟩
end CS
