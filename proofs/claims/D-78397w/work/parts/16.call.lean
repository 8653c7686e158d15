/-! LAYER 1: calls. k_back follows the kit's text vx_back (laws/EXCEPTIONS.to-paste), with the outcome given. -/
def kQ (o : AO) (D : GD) (b0 : Nat) (h' : AH) (mc ms : Nat) : Array Value → State → Outcome → State → Prop := fun _ st o' t =>
  o' = cvOC o ∧ Rp D b0 h' t.heap ∧ st.WarmedH t.vm ∧ ∃ L : List Loc, st.sameButNew ({ t with vm := st.vm } : State) L mc ms ∧ ∀ z ∈ L, b0 ≤ z.base
def kPc (D : GD) (b0 : Nat) (av : List AV) (h : AH) : Array Value → State → Prop := fun v U => v = (av.map cv).toArray ∧ Rp D b0 h U.heap ∧ Kn D b0 U ∧ b0 ≤ U.heap.size
def kRm (d : Nat) (h h' : AH) : Room := { frames := d, cells := h'.2.1 - h.2.1, slots := h'.2.2.1 - h.2.2.1, locals := 64 * d }
/-- the method M, called with av in the heap h, comes to the outcome o and the heap h', in depth d -/
def MetH (M : MD) (d : Nat) (av : List AV) (h : AH) (o : AO) (h' : AH) : Prop := ∀ (D : GD) (b0 : Nat) (la : Launch), la.flags = flags0 →
  MetFree la (mY M) (headSpec (cwd M :: lw_all) (kRm d h h')) (kPc D b0 av h) (fun _ _ _ _ _ => True) (kQ o D b0 h' (h'.2.1 - h.2.1) (h'.2.2.1 - h.2.2.1))
def Call (M : MD) (d : Nat) (av : List AV) (h : AH) (Q : AO → AH → Prop) : Prop := Wf h → ∃ o h', Q o h' ∧ Wf h' ∧ Grow h h' ∧ MetH M d av h o h'
theorem call_post {M : MD} {d : Nat} {av : List AV} {h : AH} {Q Q' : AO → AH → Prop} (k : Call M d av h Q) (i : ∀ o h', Wf h' → Grow h h' → Q o h' → Q' o h') : Call M d av h Q' := by
  intro w
  obtain ⟨o, h', q, w', g, r⟩ := k w
  exact ⟨o, h', i o h' w' g q, w', g, r⟩
theorem call_wf {M : MD} {d : Nat} {av : List AV} {h : AH} {Q : AO → AH → Prop} (k : Wf h → Call M d av h Q) : Call M d av h Q := fun w => k w w
/-! the standing facts ride -/
theorem Kn.blind {D : GD} {b0 : Nat} {U : State} {g : JFrame} {mk : MethodId} {a : Array Value} (h : Kn D b0 U) : Kn D b0 (U.calling g mk a) := by
  obtain ⟨h1, h2, h3, h4, h9, h10⟩ := h
  refine ⟨va_K.moved (u := U) (U := U.calling g mk a) (Vm.Alike.refl U.vm) h1, fun w hw hn => ?_, fun k q hq => h3 k q hq, fun k q hq => ?_, FwK.moved (s := U) (U := U.calling g mk a) (Vm.Alike.refl U.vm) h9, MiK.moved (s := U) (U := U.calling g mk a) (State.WarmedH.refl U) h10⟩
  · have h5 := h2 w hw hn
    cases w <;> simp only [nw, Bool.false_eq_true] at hn
    case fieldLinkNest a b c d e f => exact va_Nw.same rfl (rfl : U.vm = (U.calling g mk _).vm) h5
    case methodLinkNest a b c d => exact va_Nw.same rfl (rfl : U.vm = (U.calling g mk _).vm) h5
    case castable a b => exact va_Nw.same rfl (rfl : U.vm = (U.calling g mk _).vm) h5
    case declares x => exact va_Nw.same rfl (rfl : U.vm = (U.calling g mk _).vm) h5
    case arrayOver ty =>
      cases ty <;> simp only [nw, Bool.false_eq_true] at hn
      case object C =>
        have h6 : va_AO C U := h5
        exact va_AO.moved (u := U) (U := U.calling g mk a) (Vm.Alike.refl U.vm) h6
  · obtain ⟨cf, kf, fi, f, a, cell, z⟩ := h4 k q hq
    exact ⟨cf, kf, fi, f, a, cell, z⟩
theorem same_low {s U : State} {locs : List Loc} {k n b0 : Nat} (hX : s.sameButNew (U.setVm s.vm) locs k n) (hb : b0 ≤ s.heap.size) (hl : ∀ z ∈ locs, b0 ≤ z.base) : ∀ q, q < b0 → U.heap[q]? = s.heap[q]? := by
  obtain ⟨-, h2, -, -, -, h6⟩ := hX
  intro q hq
  have hqs : q < s.heap.size := Nat.lt_of_lt_of_le hq hb
  obtain ⟨c9, e1, e2, e3, e4⟩ := h6 q _ (Array.getElem?_eq_getElem hqs)
  have hs : c9.slots = (s.heap[q]).slots := Array.ext_getElem? fun i => e4 i fun hm => absurd (hl _ hm) (Nat.not_le_of_lt hq)
  have h9 : c9 = s.heap[q] := by
    rw [hs] at e2
    exact e2
  have e5 : U.heap[q]? = some c9 := e1
  rw [e5, h9, Array.getElem?_eq_getElem hqs]
theorem Kn.ride {D : GD} {b0 : Nat} {s U : State} {locs : List Loc} {k n : Nat} (hW : s.WarmedH U.vm) (hX : s.sameButNew (U.setVm s.vm) locs k n) (hb : b0 ≤ s.heap.size) (hl : ∀ z ∈ locs, b0 ≤ z.base) (h : Kn D b0 s) : Kn D b0 U := by
  obtain ⟨h1, h2, h3, h4, h9, h10⟩ := h
  refine ⟨va_K.moved hW.alike h1, h2.warm hW, fun k q hq => State.lambdaAt?_rides hW hX (h3 k q hq), fun k q hq => ?_, h9.moved hW.alike, h10.moved hW⟩
  have low := same_low hX hb hl
  exact ((h4 k q hq).moved hW.alike).kept fun a _ ha => low a (Nat.lt_of_not_le ha)
theorem k_back {p : Program} {la : Launch} {e : Env} {R : Room} {s : State} {m : MethodId} {args : Array Value} {below : List Frame} {meth : Method} {c : Code} {M Mc : MD} {d d' : Nat} {av : List AV} {h h' : AH} {o : AO} {D : GD} {b0 : Nat}
    (C : Cx M d D b0 la p R s m args meth c) (hM : MetH Mc d' av h o h') (hd : d' + 1 ≤ d) (hml : mL Mc ≤ 45) (hq : cwd Mc ∈ lw_all) (hini : Cond.initialized (mY Mc).cls ∈ lw_all)
    {U : State} {Ls : List Loc} {c0 s1 len : Nat} {g : JFrame} {ig : Instr} {mk : MethodId} (X : Stand p la e R s m args below meth c U Ls c0 s1) (hg : g.method = m) (hsize : g.locals.size = c.maxLocals) (hdg : decode c.code g.pc = .ok (ig, len))
    (hW : 2 * g.monitorRoom + (g.stack.map fun v => v.category).sum ≤ 8) (hn : U.methodNamed? (mY Mc) = some mk) (hc1 : c0 + (h'.2.1 - h.2.1) ≤ R.cells) (hs1 : s1 + (h'.2.2.1 - h.2.2.1) ≤ R.slots) (hR : Rp D b0 h U.heap) (hLs : ∀ z ∈ Ls, b0 ≤ z.base) :
    ∃ (U' : State) (L : List Loc), Stand p la e R s m args below meth c U' (Ls ++ L) (c0 + (h'.2.1 - h.2.1)) (s1 + (h'.2.2.1 - h.2.2.1)) ∧ Rp D b0 h' U'.heap ∧ (∀ z ∈ Ls ++ L, b0 ≤ z.base) ∧
      (∀ v, o = .inl v → Steps p.tables e below (doInvoke e (U.setTop g) [] mk (av.map cv).toArray).1 (U'.setTop { g with pc := g.pc + len, stack := (v.map cv).toList ++ g.stack })) ∧
      (∀ q, o = .inr q → Steps p.tables e below (doInvoke e (U.setTop g) [] mk (av.map cv).toArray).1 ((U'.setTop g).pushFrame (.throwing q))) := by
  have hts := C.2.2.2.2.2.2.1
  have hb0 := C.2.2.2.2.2.2.2.2.2.2.2.2.2
  have hfr := C.2.2.2.2.2.2.2.2.1
  have hlo := C.2.2.2.2.2.2.2.2.2.1
  have hfl := C.2.2.2.2.2.2.2.2.2.2.2.2.1
  have hKU : Kn D b0 U := C.2.2.2.2.2.2.2.1.ride X.warmed X.same hb0 hLs
  have h1 : (headSpec (cwd Mc :: lw_all) (kRm d' h h')).pre.before (av.map cv).toArray U = true := atoms_intro fun w hw => by
    have hw9 : w ∈ lw_all := by
      rcases List.mem_cons.mp hw with rfl | hw
      · exact hq
      · exact hw
    exact word_at X.warmed (good_of_word (List.mem_filter.mp hw9).2) (hts w hw9)
  have h2 : (cwd Mc).before (av.map cv).toArray U = true := word_at X.warmed (good_of_word (List.mem_filter.mp hq).2) (hts _ hq)
  have h3 : (Cond.initialized (mY Mc).cls).before (av.map cv).toArray U = true := word_at X.warmed (good_of_word (List.mem_filter.mp hini).2) (hts _ hini)
  have hUb : b0 ≤ U.heap.size := Nat.le_trans hb0 X.same.2.1
  have hPc : kPc D b0 av h (av.map cv).toArray (U.calling g mk (av.map cv).toArray) := ⟨rfl, hR, hKU.blind, hUb⟩
  obtain ⟨methY, cY, hmY, hcY, -, hlY, -, -, -, -⟩ := cwd_spec hn h2
  obtain ⟨kY, hkY, -⟩ := className_of_methodNamed hn
  have hinitY : kY.init = .initialized := Cond.initialized_spec (findClass_of_methodNamed hn) hkY h3
  have hh : At U g.method c below := by rw [hg]; exact X.here
  have happ : (headSpec (cwd Mc :: lw_all) (kRm d' h h')).appliesLoose (mY Mc) e.platform (U.calling g mk (av.map cv).toArray) = true :=
    Spec.appliesLoose_calling (g := g) hh hdg hn hkY hinitY
      (X.room_calling (g := g) (R' := kRm d' h h') hsize hmY hcY (show d' + 1 ≤ R.frames by omega) (by rw [hlY]; show _ + _ + 64 * d' ≤ R.locals; omega) hc1 hs1) h1
  obtain ⟨mid, hmid⟩ := hh.above
  have hfr9 : (U.setTop g).frames = (.java g :: mid) ++ below := by rw [State.frames_setTop' g hh.top, hmid]; rfl
  obtain ⟨o9, s₂, hsteps, -, hend, hq9⟩ := Steps.callFree (hM D b0 la hfl) p X.admits X.cas X.clock (acts := []) hfr9 happ hPc trivial
  have hq' : kQ o D b0 h' (h'.2.1 - h.2.1) (h'.2.2.1 - h.2.2.1) (av.map cv).toArray (U.calling g mk (av.map cv).toArray) o9 s₂ := hq9
  rw [State.frames_setTop' g hh.top] at hend
  obtain ⟨g₀, hg0⟩ := Option.isSome_iff_exists.mp hh.top
  obtain ⟨r, hr⟩ := State.topJava?_eq_some.mp hg0
  have hr' : (({ U with heap := s₂.heap, slotsUsed := s₂.slotsUsed } : State).setVm s₂.vm).frames = .java g₀ :: r := hr
  obtain ⟨rfl, hRp, hW₂, L, hsm, hL⟩ := hq'
  obtain ⟨e2, q2, q3, q4, q5, q6⟩ := id hsm
  have e3 : s₂ = ({ (U.calling g mk (av.map cv).toArray).setFrames s₂.frames with heap := s₂.heap, slotsUsed := s₂.slotsUsed } : State).setVm s₂.vm := by
    have : s₂ = ({ s₂ with vm := (U.calling g mk (av.map cv).toArray).vm } : State).setVm s₂.vm := rfl
    rw [e2] at this
    exact this
  have hW' : U.WarmedH s₂.vm := hW₂
  have hsame : U.sameButNew ({ U with heap := s₂.heap, slotsUsed := s₂.slotsUsed } : State) L (h'.2.1 - h.2.1) (h'.2.2.1 - h.2.2.1) := by
    refine ⟨?_, q2, q3, q4, q5, q6⟩
    obtain ⟨t, ht, -⟩ := State.frames_cons hr
    show ({ U with heap := s₂.heap, slotsUsed := s₂.slotsUsed } : State) = { U.setFrames U.frames with heap := s₂.heap, slotsUsed := s₂.slotsUsed }
    rw [State.setFrames_self ht]
  refine ⟨({ U with heap := s₂.heap, slotsUsed := s₂.slotsUsed } : State).setVm s₂.vm, L,
    ⟨X.admits, X.cas, X.clock, X.frames, X.room, X.hears, X.method, X.code, (X.here.setHeapUsed s₂.heap s₂.slotsUsed).setVm hW'.alike, X.tail, State.WarmedH.trans X.warmed hW', X.limits, X.bytes, X.same.trans (hsame.setVm s.vm)⟩, hRp, ?_, ?_, ?_⟩
  · intro z hz
    rcases List.mem_append.mp hz with hz | hz
    · exact hLs z hz
    · exact hL z hz
  · intro v hv
    subst hv
    obtain ⟨c₂, i₂, len₂, hc₂, hd₂, hf₂⟩ := hend
    have hcc : c₂ = c := by
      have h1 : s₂.code? g.method = U.code? g.method := by
        rw [State.code?_eq, State.code?_eq, hW'.alike.method?]
      exact Option.some.inj (hc₂.symm.trans (h1.trans hh.code))
    subst hcc
    have hlen : len₂ = len := by rw [hdg] at hd₂; cases hd₂; rfl
    subst hlen
    have hs₂ : s₂ = (({ U with heap := s₂.heap, slotsUsed := s₂.slotsUsed } : State).setVm s₂.vm).setTop { g with pc := g.pc + len₂, stack := (v.map cv).toList ++ g.stack } := by
      refine e3.trans ?_
      rw [hf₂, State.calling_eq hh.top, State.setFrames_setFrames, State.setTop_of_frames _ hr', hr]
      rfl
    rw [← hs₂]
    exact hsteps
  · intro q hv
    subst hv
    have hf₂ : s₂.frames = .throwing q :: .java g :: U.frames.tail := hend
    have hs₂ : s₂ = ((({ U with heap := s₂.heap, slotsUsed := s₂.slotsUsed } : State).setVm s₂.vm).setTop g).pushFrame (.throwing q) := by
      refine e3.trans ?_
      rw [hf₂, State.calling_eq hh.top, State.setFrames_setFrames, State.pushFrame, State.frames_setTop _ hr', State.setTop_of_frames _ hr', State.setFrames_setFrames, hr]
      rfl
    rw [← hs₂]
    exact hsteps
/-! entry -/
def largs : Nat → List AV → Lc
  | _, [] => []
  | i, v :: vs => (i, v) :: largs (bif isL v then i + 2 else i + 1) vs
theorem largs_map (vs : List AV) : ∀ i, (largs i vs).map cvl = lv_args i (vs.map cv) := by
  induction vs with
  | nil => intro i; rfl
  | cons v t ih =>
    intro i
    show (i, cv v) :: (largs _ t).map cvl = (i, cv v) :: lv_args _ (t.map cv)
    rw [ih]
    congr 2
    have h := cat_cv v
    cases hL : isL v with
    | true =>
      rw [hL] at h
      rw [if_pos (by simpa using h)]
      rfl
    | false =>
      rw [hL] at h
      rw [if_neg (by simpa using h)]
      rfl
def lwid : List AV → Nat
  | [] => 0
  | v :: vs => (bif isL v then 2 else 1) + lwid vs
theorem lwid_sl (vs : List AV) : (lg_sl (vs.map cv)).length = lwid vs := by
  induction vs with
  | nil => rfl
  | cons v t ih =>
    have h := cat_cv v
    show (List.flatMap _ (cv v :: t.map cv)).length = _
    rw [List.flatMap_cons, List.length_append]
    have ih' : (List.flatMap (fun v : Value => if v.category = 2 then [Slot.val v, Slot.second] else [Slot.val v]) (t.map cv)).length = lwid t := ih
    rw [ih']
    show _ = (bif isL v then 2 else 1) + lwid t
    congr 1
    cases hL : isL v with
    | true =>
      rw [hL] at h
      rw [if_pos (by simpa using h)]
      rfl
    | false =>
      rw [hL] at h
      rw [if_neg (by simpa using h)]
      rfl
/-- a method's contract out of the walk of its body -/
theorem call_of {M : MD} {d : Nat} {av : List AV} {h : AH} {Q : AO → AH → Prop} (ok : ∀ pc x, mT M pc = some x → decode (mC M) pc = .ok x) (hpl : plainFor (mY M) = true) (hlen : lwid av ≤ mL M) (k : Ex M d 0 (largs 0 av) [] h Q) : Call M d av h Q := by
  intro w
  obtain ⟨o, h', q, w', g, r⟩ := k w
  refine ⟨o, h', q, w', g, ?_⟩
  intro D b0 la hfl
  refine MetFree.of_bodySF (code := mC M) (maxLocals := mL M) (ret := mR M) hpl ?_ ?_
  · intro args s m hp hn
    obtain ⟨meth, c, h1, h2, h3, h4, h5, h6, -, -⟩ := cwd_spec hn (atoms_spec (ws := cwd M :: lw_all) hp _ List.mem_cons_self)
    exact ⟨meth, c, h1, h2, h3, h4, h5, h6⟩
  · intro p e s m args below meth c s₁ B hml hP _
    obtain ⟨rfl, hR, hK, hb⟩ := hP
    have hh0 : s₁.heap = s.heap := by rw [B.state]; rfl
    have hts := atoms_spec (ws := cwd M :: lw_all) B.pre
    obtain ⟨meth9, c9, g1, g2, -, -, -, -, g7, -⟩ := cwd_spec B.named (hts _ List.mem_cons_self)
    cases Option.some.inj (g1.symm.trans B.method)
    have X := Stand.of_body B
    cases Option.some.inj (g2.symm.trans X.code)
    have C : Cx M d D b0 la p (kRm d h h') s m (av.map cv).toArray meth c := by
      refine ⟨B.exec, fun pc x hx => by rw [B.bytes]; exact ok pc x hx, B.returns, hml, B.notSynchronized, findClass_of_methodNamed B.named, fun w hw => hts w (List.mem_cons_of_mem _ hw), hK, Nat.le_refl _, Nat.le_refl _, g7, (name_of_methodNamed B.named B.method).1, hfl, hb⟩
    have hl := lv_entry (av.map cv) (n := mL M) (by rw [lwid_sl]; exact hlen)
    rw [← largs_map] at hl
    have hz : s.heap.size = h.2.1 := hR.1
    have r1 := r D b0 la p e (kRm d h h') s m _ below meth c h.2.2.1 C (by show _ ≤ s.heap.size + (h'.2.1 - h.2.1); omega) (by show _ ≤ h.2.2.1 + (h'.2.2.1 - h.2.2.1); omega) (by omega) (Nat.le_refl _) s.heap [] _ hR (fun z hz => by cases hz) (fun _ _ => rfl) hl
    rw [hz, Nat.sub_self, Nat.sub_self] at r1
    obtain ⟨t, a1, b1, b2, b3, b4, L, b5, b6⟩ := r1 s₁ hh0 X
    refine ⟨t, cvOC o, ?_, b1, b2, rfl, b3, b4, L, b5, b6⟩
    rw [lg_entry_eq]
    exact a1
