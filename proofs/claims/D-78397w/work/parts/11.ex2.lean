/-! LAYER 1, second half: what an execution is, and its rules -/
abbrev GD : Type := va_G × (Nat → ClassId) × (Nat → AV)
def cvA (t n : Nat) (c : ArrC) : vp_A := match c with
  | .inl g => if t = 3 then (n, .inr (.inl (fun k => Int64.ofInt (g k)))) else (n, .inl (fun k => Int32.ofInt (g k)))
  | .inr r => (n, .inr (.inr (.inr (.inr r))))
def oAt (D : GD) (a : Nat) (o : Obj) (H : Heap) : Prop := match o with
  | .inl (t, n, c) => H[a]? = some (vp_cell (D.2.1 t) (cvA t n c))
  | .inr (c, fs) => if c < 50 then va_at D.1 CL (a, .inr (c, fs.map cv)) H else ∃ cell : Cell, H[a]? = some cell ∧ cell.cls = D.2.1 c ∧ cell.vm = .none ∧ ∀ (k : Nat) (v : AV), fs[k]? = some v → cell.slots[k]? = some (cv v)
theorem oAt.kept {D : GD} {a : Nat} {o : Obj} {H H1 : Heap} (h : oAt D a o H) (e : H1[a]? = H[a]?) : oAt D a o H1 := by
  rcases o with ⟨t, n, c⟩ | ⟨c, fs⟩
  · have h1 : H[a]? = some (vp_cell (D.2.1 t) (cvA t n c)) := h
    exact e.trans h1
  · simp only [oAt] at h ⊢
    by_cases hc : c < 50
    · rw [if_pos hc] at h ⊢
      obtain ⟨r, h1, h2⟩ := h
      exact ⟨r, h1, h2.kept e⟩
    · rw [if_neg hc] at h ⊢
      obtain ⟨cell, h1, h2⟩ := h
      exact ⟨cell, e.trans h1, h2⟩
theorem oAt.lt {D : GD} {a : Nat} {o : Obj} {H : Heap} (h : oAt D a o H) : a < H.size := by
  rcases o with ⟨t, n, c⟩ | ⟨c, fs⟩
  · have h1 : H[a]? = some (vp_cell (D.2.1 t) (cvA t n c)) := h
    exact (Array.getElem?_eq_some_iff.mp h1).1
  · simp only [oAt] at h
    by_cases hc : c < 50
    · rw [if_pos hc] at h
      obtain ⟨r, h1, cell, h2, -⟩ := h
      exact (Array.getElem?_eq_some_iff.mp h2).1
    · rw [if_neg hc] at h
      obtain ⟨cell, h1, h2⟩ := h
      exact (Array.getElem?_eq_some_iff.mp h1).1
def tysOf (D : GD) : List (ClassId × FieldType) := ATs.mapIdx (fun k ty => (D.2.1 k, ty))
theorem tysOf_at {D : GD} {t : Nat} {ty : FieldType} (h : ATs[t]? = some ty) : (tysOf D)[t]? = some (D.2.1 t, ty) := by
  unfold tysOf
  rw [List.getElem?_mapIdx, h]
  rfl
/-- the machine's heap H is a picture of the abstract heap h; what may be written lies from b0 on -/
def Rp (D : GD) (b0 : Nat) (h : AH) (H : Heap) : Prop := H.size = h.2.1 ∧ (∀ a tg o, h.1 a = some (tg, o) → oAt D a o H ∧ (tg.1 ≠ 0 → b0 ≤ a)) ∧ D.2.2 = h.2.2.2
theorem Rp.wf {D : GD} {b0 : Nat} {h : AH} {H : Heap} (r : Rp D b0 h H) : Wf h := by
  intro a x hx
  have := (r.2.1 a x.1 x.2 hx).1.lt
  rw [r.1] at this
  exact this
theorem Rp.put {D : GD} {b0 : Nat} {h : AH} {H H1 : Heap} (r : Rp D b0 h H) {a : Nat} {tg : Tg} {o o1 : Obj} (ha : h.1 a = some (tg, o)) (h1 : oAt D a o1 H1) (z : H1.size = H.size) (k : ∀ q, q ≠ a → H1[q]? = H[q]?) : Rp D b0 (hset h a (tg, o1)) H1 := by
  refine ⟨z.trans r.1, fun q t2 o2 hq => ?_, r.2.2⟩
  by_cases e : q = a
  · subst e
    rw [hset_at] at hq
    cases hq
    exact ⟨h1, (r.2.1 q tg o ha).2⟩
  · rw [hset_ne e] at hq
    exact ⟨(r.2.1 q t2 o2 hq).1.kept (k q e), (r.2.1 q t2 o2 hq).2⟩
theorem Rp.new {D : GD} {b0 : Nat} {h : AH} {H H1 : Heap} (r : Rp D b0 h H) {tg : Tg} {o : Obj} {n : Nat} (hb : b0 ≤ H.size) (h1 : oAt D H.size o H1) (z : H1.size = H.size + 1) (k : ∀ q, q < H.size → H1[q]? = H[q]?) : Rp D b0 (hnew h (tg, o) n) H1 := by
  refine ⟨?_, fun q t2 o2 hq => ?_, r.2.2⟩
  · show H1.size = h.2.1 + 1
    rw [z, r.1]
  · by_cases e : q = h.2.1
    · subst e
      rw [hnew_at] at hq
      cases hq
      rw [← r.1]
      exact ⟨h1, fun _ => hb⟩
    · rw [hnew_ne e] at hq
      have hl : q < H.size := (r.2.1 q t2 o2 hq).1.lt
      exact ⟨(r.2.1 q t2 o2 hq).1.kept (k q hl), (r.2.1 q t2 o2 hq).2⟩
/-! words that ride by laws of their own -/
def nw : Cond → Bool
  | .fieldLinkNest .. => true
  | .methodLinkNest .. => true
  | .castable .. => true
  | .declares .. => true
  | .arrayOver (.object _) => true
  | _ => false
def LamK (D : GD) (s : State) : Prop := ∀ (k : Nat) (q : MethodName × Nat × Nat × Lambda.Shape), LSs[k]? = some q → s.lambdaAt? q.1 q.2.1 q.2.2.1 q.2.2.2 = some (D.2.1 (50 + k), none)
def NwK (s : State) : Prop := ∀ w ∈ lw_tbl, nw w = true → va_Nw w s
theorem NwK.warm {s U : State} (hW : s.WarmedH U.vm) (h : NwK s) : NwK U := by
  intro w hw hn
  have h1 := h w hw hn
  cases w <;> simp only [nw, Bool.false_eq_true] at hn
  case fieldLinkNest a b c d e f => exact va_Nw.warmF hW h1
  case methodLinkNest a b c d => exact va_Nw.warmM hW h1
  case castable a b => exact va_Nw.warmC hW h1
  case declares x => exact va_Nw.warmD hW h1
  case arrayOver ty =>
    cases ty <;> simp only [nw, Bool.false_eq_true] at hn
    case object C =>
      have h2 : va_AO C s := h1
      exact h2.moved hW.alike
/-- statics that never change -/
def StK (D : GD) (b0 : Nat) (s : State) (H : Heap) : Prop := ∀ (k : Nat) (q : String × String × String), STs[k]? = some q → va_Z q.1 q.2.1 q.2.2 (cv (D.2.2 k)) (fun x => b0 ≤ x) s H
def FwK (s : State) : Prop := ∀ (k : Nat) (q : String × MethodName × MethodName), FWs[k]? = some q → va_Fw q.1 q.2.1 q.2.2 s
theorem fws_plain : ∀ q ∈ FWs, q.2.1.cls ≠ "java/lang/invoke/MethodHandle" ∧ q.2.1.cls ≠ "java/lang/invoke/VarHandle" := by decide +kernel
theorem FwK.moved {s U : State} (hvm : s.vm.Alike U.vm) (h : FwK s) : FwK U := fun k q hq => (h k q hq).moved (fws_plain q (List.mem_of_getElem? hq)) hvm
/-- class objects and String constants, with their places among the statics' values -/
def MiK (D : GD) (s : State) : Prop := (∀ (k : Nat) (C : String), MIs[k]? = some C → ∃ mi : Nat, D.2.2 (20 + k) = Rf mi ∧ va_Mi C mi s) ∧ (∀ (k : Nat) (q : String × Nat × String), SKs[k]? = some q → ∃ a : Nat, D.2.2 (30 + k) = Rf a ∧ vk_R q.1 q.2.1 q.2.2 a s)
theorem MiK.moved {D : GD} {s U : State} (hW : s.WarmedH U.vm) (h : MiK D s) : MiK D U := by
  refine ⟨fun k C hk => ?_, fun k q hk => ?_⟩
  · obtain ⟨mi, h1, h2⟩ := h.1 k C hk
    exact ⟨mi, h1, h2.moved hW.alike⟩
  · obtain ⟨a, h1, h2⟩ := h.2 k q hk
    exact ⟨a, h1, vk_R.warm hW h2⟩
def Kn (D : GD) (b0 : Nat) (s : State) : Prop := va_K D.1 CL (tysOf D) s ∧ NwK s ∧ LamK D s ∧ StK D b0 s s.heap ∧ FwK s ∧ MiK D s
/-! methods -/
abbrev mY (M : MD) : MethodName := M.1
abbrev mC (M : MD) : ByteArray := M.2.1
abbrev mL (M : MD) : Nat := M.2.2.1
abbrev mR (M : MD) : Option FieldType := M.2.2.2.1
abbrev mH (M : MD) : Hd := M.2.2.2.2.1
abbrev mT (M : MD) : Nat → Option (Instr × Nat) := M.2.2.2.2.2
def cwd (M : MD) : Cond := match mH M with
  | [] => Cond.code (mY M) (mC M) (mL M) (mR M)
  | h :: t => Cond.codeWith (mY M) (mC M) (mL M) (mR M) (h :: t)
theorem cwd_spec {M : MD} {args : Array Value} {s : State} {m : MethodId} (hn : s.methodNamed? (mY M) = some m) (h : (cwd M).before args s = true) :
    ∃ meth c, s.vm.method? m = some meth ∧ meth.code = some c ∧ c.code = mC M ∧ c.maxLocals = mL M ∧ meth.sig.returnType = mR M ∧ meth.locks = false ∧ c.exceptionTable.toList.map (fun h => (h.startPc, h.endPc, h.handlerPc, h.catchType)) = mH M ∧ parseMethodDescriptor (mY M).desc = some meth.sig := by
  unfold cwd at h
  cases hh : mH M with
  | nil =>
    rw [hh] at h
    obtain ⟨meth, c, h1, h2, h3, h4, h5, h6, h7, h8⟩ := Cond.code_spec hn h
    refine ⟨meth, c, h1, h2, h3, h4, h5, h6, ?_, h8⟩
    have : c.exceptionTable = #[] := by simpa using h7
    rw [this]
    rfl
  | cons a t =>
    rw [hh] at h
    obtain ⟨m9, meth, c, hn9, h1, h2, h3, h4, h7, h5, h6, h8⟩ := Cond.codeWith_spec h
    cases hn.symm.trans hn9
    exact ⟨meth, c, h1, h2, h3, h4, h5, h6, h7, h8⟩
/-- outcomes -/
abbrev AO : Type := Option AV ⊕ Nat
def cvOC : AO → Outcome
  | .inl v => .returned (v.map cv)
  | .inr q => .threw q
def EndP (s : State) (below : List Frame) (D : GD) (b0 : Nat) (o : AO) (h' : AH) (mc ms : Nat) : State → Prop := fun t =>
  t.status = .running ∧ Ended t below (cvOC o) ∧ Rp D b0 h' t.heap ∧ s.WarmedH t.vm ∧ ∃ L, s.sameButNew ({ t with vm := s.vm } : State) L mc ms ∧ ∀ z ∈ L, b0 ≤ z.base
/-- the standing facts of a method's walk -/
def Cx (M : MD) (d : Nat) (D : GD) (b0 : Nat) (l : Launch) (p : Program) (R : Room) (s : State) (m : MethodId) (args : Array Value) (meth : Method) (c : Code) : Prop :=
  p.tables.exec = Jvm.exec ∧ (∀ pc x, mT M pc = some x → decode c.code pc = .ok x) ∧ meth.sig.returnType = mR M ∧ c.maxLocals = mL M ∧ meth.locks = false ∧ s.vm.findClass (mY M).cls = some m.cls ∧ (∀ w ∈ lw_all, w.before args s = true) ∧ Kn D b0 s ∧ d ≤ R.frames ∧ 64 * d ≤ R.locals ∧ c.exceptionTable.toList.map (fun h => (h.startPc, h.endPc, h.handlerPc, h.catchType)) = mH M ∧ meth.name = (mY M).name ∧ l.flags = flags0 ∧ b0 ≤ s.heap.size
def Rch (M : MD) (d pc : Nat) (l : Lc) (st : List AV) (h : AH) (o : AO) (h' : AH) : Prop :=
  ∀ (D : GD) (b0 : Nat) (la : Launch) (p : Program) (e : Env) (R : Room) (s : State) (m : MethodId) (args : Array Value) (below : List Frame) (meth : Method) (c : Code) (s0 : Nat),
    Cx M d D b0 la p R s m args meth c → h'.2.1 ≤ s.heap.size + R.cells → h'.2.2.1 ≤ s0 + R.slots → s.heap.size ≤ h.2.1 → s0 ≤ h.2.2.1 →
    ∀ (H : Heap) (locs : List Loc) (ls : Array Slot), Rp D b0 h H → (∀ z ∈ locs, b0 ≤ z.base) → (∀ q, q < b0 → H[q]? = s.heap[q]?) → lv_has ls (mL M) (l.map cvl) →
    W p la e R s m args below meth c H locs (h.2.1 - s.heap.size) (h.2.2.1 - s0) (EndP s below D b0 o h' (h'.2.1 - s.heap.size) (h'.2.2.1 - s0)) (F0 m pc ls (st.map cv))
/-- the same with q thrown over the frame -/
def RchT (M : MD) (d pc : Nat) (l : Lc) (st : List AV) (h : AH) (q : Nat) (o : AO) (h' : AH) : Prop :=
  ∀ (D : GD) (b0 : Nat) (la : Launch) (p : Program) (e : Env) (R : Room) (s : State) (m : MethodId) (args : Array Value) (below : List Frame) (meth : Method) (c : Code) (s0 : Nat),
    Cx M d D b0 la p R s m args meth c → h'.2.1 ≤ s.heap.size + R.cells → h'.2.2.1 ≤ s0 + R.slots → s.heap.size ≤ h.2.1 → s0 ≤ h.2.2.1 →
    ∀ (H : Heap) (locs : List Loc) (ls : Array Slot), Rp D b0 h H → (∀ z ∈ locs, b0 ≤ z.base) → (∀ q, q < b0 → H[q]? = s.heap[q]?) → lv_has ls (mL M) (l.map cvl) →
    ∀ T : State, T.heap = H → Stand p la e R s m args below meth c T locs (h.2.1 - s.heap.size) (h.2.2.1 - s0) → ∃ t, Steps p.tables e below ((T.setTop (F0 m pc ls (st.map cv))).pushFrame (.throwing q)) t ∧ EndP s below D b0 o h' (h'.2.1 - s.heap.size) (h'.2.2.1 - s0) t
def Grow (h h' : AH) : Prop := h.2.1 ≤ h'.2.1 ∧ h.2.2.1 ≤ h'.2.2.1 ∧ h'.2.2.2 = h.2.2.2
theorem Grow.rf (h : AH) : Grow h h := ⟨Nat.le_refl _, Nat.le_refl _, rfl⟩
theorem Grow.tr {a b c : AH} (h1 : Grow a b) (h2 : Grow b c) : Grow a c := ⟨Nat.le_trans h1.1 h2.1, Nat.le_trans h1.2.1 h2.2.1, h2.2.2.trans h1.2.2⟩
/-- from this point of the method the walk comes to an outcome and a heap of which Q holds -/
def Ex (M : MD) (d pc : Nat) (l : Lc) (st : List AV) (h : AH) (Q : AO → AH → Prop) : Prop :=
  Wf h → ∃ o h', Q o h' ∧ Wf h' ∧ Grow h h' ∧ Rch M d pc l st h o h'
def ExT (M : MD) (d pc : Nat) (l : Lc) (st : List AV) (h : AH) (q : Nat) (Q : AO → AH → Prop) : Prop :=
  Wf h → ∃ o h', Q o h' ∧ Wf h' ∧ Grow h h' ∧ RchT M d pc l st h q o h'
theorem ex_wf {M : MD} {d pc : Nat} {l : Lc} {st : List AV} {h : AH} {Q : AO → AH → Prop} (k : Wf h → Ex M d pc l st h Q) : Ex M d pc l st h Q := fun w => k w w
theorem ex_post {M : MD} {d pc : Nat} {l : Lc} {st : List AV} {h : AH} {Q Q' : AO → AH → Prop} (k : Ex M d pc l st h Q) (i : ∀ o h', Wf h' → Grow h h' → Q o h' → Q' o h') : Ex M d pc l st h Q' := by
  intro w
  obtain ⟨o, h', q, w', g, r⟩ := k w
  exact ⟨o, h', i o h' w' g q, w', g, r⟩
/-- a step that leaves the heap as it is -/
theorem ex_of {M : MD} {d pc pc1 : Nat} {l l1 : Lc} {st st1 : List AV} {h : AH} {Q : AO → AH → Prop} (k : Ex M d pc1 l1 st1 h Q) (f : ∀ o h', Rch M d pc1 l1 st1 h o h' → Rch M d pc l st h o h') : Ex M d pc l st h Q := by
  intro w
  obtain ⟨o, h', q, w', g, r⟩ := k w
  exact ⟨o, h', q, w', g, f o h' r⟩
/-- a step that takes the heap on -/
theorem ex_on {M : MD} {d pc pc1 : Nat} {l l1 : Lc} {st st1 : List AV} {h h1 : AH} {Q : AO → AH → Prop} (w1 : Wf h → Wf h1) (g1 : Grow h h1) (k : Ex M d pc1 l1 st1 h1 Q) (f : ∀ o h', Grow h1 h' → Rch M d pc1 l1 st1 h1 o h' → Rch M d pc l st h o h') : Ex M d pc l st h Q := by
  intro w
  obtain ⟨o, h', q, w', g, r⟩ := k (w1 w)
  exact ⟨o, h', q, w', g1.tr g, f o h' g r⟩
theorem ex_loc {M : MD} {d pc : Nat} {l st h Q} (l' : Lc) (hs : LSub l l') (k : Ex M d pc l' st h Q) : Ex M d pc l st h Q := by
  refine ex_of k fun o h' r => ?_
  intro D b0 la p e R s m args below meth c s0 C h1 h2 h3 h4 H locs ls hR hlo hA hl
  exact r D b0 la p e R s m args below meth c s0 C h1 h2 h3 h4 H locs ls hR hlo hA (hs.has hl)
/-- the depth given may be more -/
theorem Cx.le {M : MD} {d d' : Nat} {D : GD} {b0 : Nat} {l : Launch} {p : Program} {R : Room} {s : State} {m : MethodId} {args : Array Value} {meth : Method} {c : Code} (h : Cx M d D b0 l p R s m args meth c) (hd : d' ≤ d) : Cx M d' D b0 l p R s m args meth c := by
  obtain ⟨a1, a2, a3, a4, a5, a6, a7, a8, a9, a10, a11⟩ := h
  exact ⟨a1, a2, a3, a4, a5, a6, a7, a8, by omega, by omega, a11⟩
theorem ex_depth {M : MD} {d d' pc : Nat} {l st h Q} (hd : d' ≤ d) (k : Ex M d' pc l st h Q) : Ex M d pc l st h Q := by
  intro w
  obtain ⟨o, h', q, w', g, r⟩ := k w
  exact ⟨o, h', q, w', g, fun D b0 la p e R s m args below meth c s0 C => r D b0 la p e R s m args below meth c s0 (C.le hd)⟩
/-- the tag of a cell is a name of ours: it may change at any time (0 stays for what is read alone) -/
theorem Rp.retag {D : GD} {b0 : Nat} {h : AH} {H : Heap} (r : Rp D b0 h H) {a : Nat} {tg tg' : Tg} {o : Obj} (ha : h.1 a = some (tg, o)) (h0 : tg.1 ≠ 0) : Rp D b0 (hset h a (tg', o)) H := by
  refine ⟨r.1, fun q t2 o2 hq => ?_, r.2.2⟩
  by_cases e : q = a
  · subst e
    rw [hset_at] at hq
    cases hq
    exact ⟨(r.2.1 q tg o ha).1, fun _ => (r.2.1 q tg o ha).2 h0⟩
  · rw [hset_ne e] at hq
    exact r.2.1 q t2 o2 hq
theorem ex_retag {M : MD} {d pc : Nat} {l st h Q} {a : Nat} {tg : Tg} {o : Obj} (ha : h.1 a = some (tg, o)) (h0 : tg.1 ≠ 0) (tg' : Tg) (k : Ex M d pc l st (hset h a (tg', o)) Q) : Ex M d pc l st h Q := by
  intro w
  obtain ⟨o9, h', q, w', g, r⟩ := k (w.set (w a _ ha))
  refine ⟨o9, h', q, w', g, ?_⟩
  intro D b0 la p e R s m args below meth c s0 C h1 h2 h3 h4 H locs ls hR hlo hA hl
  exact r D b0 la p e R s m args below meth c s0 C h1 h2 h3 h4 H locs ls (hR.retag ha h0) hlo hA hl
/-! the end of a method -/
theorem W.post {p : Program} {l : Launch} {e : Env} {R : Room} {s : State} {m : MethodId} {args : Array Value} {below : List Frame} {meth : Method} {c : Code} {H : Heap} {locs : List Loc} {cells slots : Nat} {Q Q' : State → Prop} {g : JFrame} (h : ∀ t, Q t → Q' t) (k : W p l e R s m args below meth c H locs cells slots Q g) : W p l e R s m args below meth c H locs cells slots Q' g := by
  intro T hT X
  obtain ⟨t, a, b⟩ := k T hT X
  exact ⟨t, a, h t b⟩
theorem mq_end {s : State} {below : List Frame} {D : GD} {b0 : Nat} {o : AO} {h' : AH} {args : Array Value} {mc ms : Nat} (t : State) (q : MQ below (fun _ st o1 t => o1 = cvOC o ∧ Rp D b0 h' t.heap ∧ st.WarmedH t.vm) args s mc ms (fun x => b0 ≤ x) t) : EndP s below D b0 o h' mc ms t := by
  obtain ⟨o1, h1, h2, ⟨rfl, h3, h4⟩, L, hF, hL⟩ := q
  exact ⟨h1, h2, h3, h4, L, hF.2.2, hL⟩
theorem ex_ireturn {M : MD} {d pc : Nat} {l : Lc} {h : AH} {Q : AO → AH → Prop} {a : Int} (hT : mT M pc = some (.ireturn, 1)) (hr : ∃ ty, mR M = some ty ∧ narrow ty (.int (Int32.ofInt a)) = .int (Int32.ofInt a)) (hQ : Q (.inl (some (J a))) h) : Ex M d pc l [J a] h Q := by
  intro w
  refine ⟨_, h, hQ, w, Grow.rf h, ?_⟩
  intro D b0 la p e R s m args below meth c s0 C h1 h2 h3 h4 H locs ls hR hlo hA hl
  obtain ⟨ty, e1, e2⟩ := hr
  exact W.post (fun t q => mq_end t q) (W.zret (v := Int32.ofInt a) C.1 rfl (C.2.2.1.trans e1) e2 (fun t ht hW => ⟨rfl, by rw [ht]; exact hR, hW⟩) hlo (C.2.1 pc _ hT) C.2.2.2.2.1)
theorem ex_lreturn {M : MD} {d pc : Nat} {l : Lc} {h : AH} {Q : AO → AH → Prop} {a : Int} (hT : mT M pc = some (.lreturn, 1)) (hr : mR M = some .long) (hQ : Q (.inl (some (G a))) h) : Ex M d pc l [G a] h Q := by
  intro w
  refine ⟨_, h, hQ, w, Grow.rf h, ?_⟩
  intro D b0 la p e R s m args below meth c s0 C h1 h2 h3 h4 H locs ls hR hlo hA hl
  exact W.post (fun t q => mq_end t q) (W.lret (v := Int64.ofInt a) C.1 rfl (C.2.2.1.trans hr) (fun t ht hW => ⟨rfl, by rw [ht]; exact hR, hW⟩) hlo (C.2.1 pc _ hT) C.2.2.2.2.1)
theorem ex_areturn {M : MD} {d pc : Nat} {l : Lc} {h : AH} {Q : AO → AH → Prop} {r : Option Nat} (hT : mT M pc = some (.areturn, 1)) (hr : ∃ ty, mR M = some ty ∧ ((∃ n, ty = .object n) ∨ ∃ t, ty = .array t)) (hQ : Q (.inl (some (Ro r))) h) : Ex M d pc l [Ro r] h Q := by
  intro w
  refine ⟨_, h, hQ, w, Grow.rf h, ?_⟩
  intro D b0 la p e R s m args below meth c s0 C h1 h2 h3 h4 H locs ls hR hlo hA hl
  obtain ⟨ty, e1, e2⟩ := hr
  exact W.post (fun t q => mq_end t q) (W.aret (v := va_rf r) C.1 rfl (C.2.2.1.trans e1) e2 (by cases r with | none => exact Or.inl rfl | some a => exact Or.inr ⟨a, rfl⟩) (fun t ht hW => ⟨rfl, by rw [ht]; exact hR, hW⟩) hlo (C.2.1 pc _ hT) C.2.2.2.2.1)
theorem ex_return {M : MD} {d pc : Nat} {l : Lc} {h : AH} {Q : AO → AH → Prop} (hT : mT M pc = some (.return_, 1)) (hr : mR M = none) (hQ : Q (.inl none) h) : Ex M d pc l [] h Q := by
  intro w
  refine ⟨_, h, hQ, w, Grow.rf h, ?_⟩
  intro D b0 la p e R s m args below meth c s0 C h1 h2 h3 h4 H locs ls hR hlo hA hl
  exact W.post (fun t q => mq_end t q) (W.vret C.1 rfl (C.2.2.1.trans hr) (fun t ht hW => ⟨rfl, by rw [ht]; exact hR, hW⟩) hlo (C.2.1 pc _ hT) C.2.2.2.2.1)
