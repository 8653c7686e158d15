/-! LAYER 1: clone of an array -/
def LkCl (own : String) (idx : Nat) (ad : String) : Prop := Cond.methodLink own idx ⟨ad, "clone", "()Ljava/lang/Object;"⟩ ∈ lw_all ∧ Cond.sameMethod ad "java/lang/Object" "clone" "()Ljava/lang/Object;" ∈ lw_all ∧ Cond.native ⟨"java/lang/Object", "clone", "()Ljava/lang/Object;"⟩ ∈ lw_all ∧ Cond.instanceMethod ⟨"java/lang/Object", "clone", "()Ljava/lang/Object;"⟩ ∈ lw_all ∧
  Cond.selects ad ⟨ad, "clone", "()Ljava/lang/Object;"⟩ ⟨"java/lang/Object", "clone", "()Ljava/lang/Object;"⟩ ∈ lw_all ∧ Cond.castable ad "java/lang/Cloneable" ∈ lw_tbl
theorem e_cloneR {M : MD} {d pc : Nat} {l : Lc} {st : List AV} {h : AH} {Q : AO → AH → Prop} {idx a t n : Nat} {C0 : String} {tg : Tg} {f : Nat → Option Nat} (tg' : Tg) (lk : LkCl (mY M).cls idx ("[" ++ (FieldType.object C0).toString)) (ht : ATs[t]? = some (.object C0)) (hT : mT M pc = some (.invokevirtual idx, 3)) (ha : h.1 a = some (tg, oRef t n f)) (hw : lwid st ≤ 8)
    (k : Ex M (d + 1) (pc + 3) l (Rf h.2.1 :: st) (hnew h (tg', oRef t n f) n) Q) : Ex M (d + 1) pc l (Rf a :: st) h Q := by
  refine ex_on (fun w => w.new) ⟨Nat.le_succ _, Nat.le_add_right _ _, rfl⟩ k fun o h' g r => ?_
  intro D b0 la p e R s m args below meth c s0 C h1 h2 h3 h4 H locs ls hR hlo hA hl T hT9 X
  have hts := C.2.2.2.2.2.2.1
  have hK := C.2.2.2.2.2.2.2.1.1
  have hfr := C.2.2.2.2.2.2.2.2.1
  have hlc := C.2.2.2.2.2.2.2.2.2.1
  obtain ⟨k1, k2, k3, k4, k5, k6⟩ := lk
  obtain ⟨ga, gb, gc⟩ := g
  have ga : h.2.1 + 1 ≤ h'.2.1 := ga
  have gb : h.2.2.1 + n ≤ h'.2.2.1 := gb
  have hb : b0 ≤ H.size := by rw [hR.1]; exact Nat.le_trans C.2.2.2.2.2.2.2.2.2.2.2.2.2 h3
  have c0 := oAt_arr (hR.2.1 a tg _ ha).1
  have hnm : s.vm.findClass ("[" ++ (FieldType.object C0).toString) = some (D.2.1 t) := by
    obtain ⟨_, _, -, -, -, h9⟩ := (hK.2 t _ (tysOf_at ht)).2
    exact h9
  obtain ⟨c3, t0', f1, f2, f3⟩ := Cond.castable_spec (va_Nw.use (A := args) rfl (C.2.2.2.2.2.2.2.1.2.1 _ k6 rfl))
  cases hnm.symm.trans f1
  obtain ⟨-, kA, hkA, comp, hkind⟩ := State.isArrayOf_alike X.warmed.alike ((hK.2 t _ (tysOf_at ht)).1 0 (fun _ => .null))
  obtain ⟨-, kS, hkS, compS, hkindS⟩ := (hK.2 t _ (tysOf_at ht)).1 0 (fun _ => .null)
  obtain ⟨vm', X', st9⟩ := X.cloneArray C.1 C.2.2.2.2.2.1 (hts _ k1) (hts _ k2) (hts _ k3) (hts _ k4) (hts _ k5) (a := a) (cell := arrV (D.2.1 t) n (az t (.inr f))) (by rw [hT9]; exact c0) (fun k h => by cases h) (fun h => by cases h) hnm f2 f3
    (fun i v hv => by
      have hk' : T.vm.classes[D.2.1 t]? = some kA := hkA
      have hin : i < n := by
        have := (Array.getElem?_eq_some_iff.mp hv).1
        rw [arrV_size] at this
        exact this
      rw [arrV_read _ _ hin] at hv
      have hv9 : va_rf (f i) = v := Option.some.inj hv
      have hf : fits (.object C0) v = true := by
        rw [← hv9]
        cases f i <;> rfl
      simpa [arrV, State.fitsSlot, State.slotType?, hk', hkind] using hf)
    (g := F0 m pc ls ((Rf a :: st).map cv)) rfl (by show ls.size = _; rw [hl.1]; exact C.2.2.2.1.symm) (rest := st.map cv) rfl (C.2.1 _ _ hT) (by omega) (by rw [wt_st]; show 2 * 0 + lwid st + 14 ≤ _; omega) (by omega) (by rw [arrV_size]; omega) (hloader := Vm.clonesLoader_of_array hkS hkindS)
  rw [arrV_size] at X'
  have hcE : ({ cls := (arrV (D.2.1 t) n (az t (.inr f))).cls, slots := (arrV (D.2.1 t) n (az t (.inr f))).slots } : Cell) = arrV (D.2.1 t) n (az t (.inr f)) := rfl
  rw [hcE] at X' st9
  have z1 : (H.push (arrV (D.2.1 t) n (az t (.inr f)))).size = H.size + 1 := by rw [Array.size_push]
  have e1 : (H.push (arrV (D.2.1 t) n (az t (.inr f))))[H.size]? = some (arrV (D.2.1 t) n (az t (.inr f))) := by rw [Array.getElem?_push_size]
  have o1 : ∀ q : Nat, q < H.size → (H.push (arrV (D.2.1 t) n (az t (.inr f))))[q]? = H[q]? := fun q hq => by rw [Array.getElem?_push, if_neg (Nat.ne_of_lt hq)]
  have r1 := r D b0 la p e R s m args below meth c s0 C h1 h2 (show s.heap.size ≤ h.2.1 + 1 by omega) (show s0 ≤ h.2.2.1 + n by omega) _ locs ls (hR.new (tg := tg') (n := n) hb (oAt_of (c := .inr f) e1) z1 o1) hlo (fun q hq => by rw [o1 q (by omega)]; exact hA q hq) hl
  have e3 : (hnew h (tg', oRef t n f) n).2.1 - s.heap.size = h.2.1 - s.heap.size + 1 := by show h.2.1 + 1 - s.heap.size = _; omega
  have e4 : (hnew h (tg', oRef t n f) n).2.2.1 - s0 = h.2.2.1 - s0 + n := by show h.2.2.1 + n - s0 = _; omega
  rw [e3, e4] at r1
  obtain ⟨t9, b1, b2⟩ := r1 ((T.setVm vm').pushCell (arrV (D.2.1 t) n (az t (.inr f)))) (by rw [← hT9]; rfl) X'
  refine ⟨t9, st9 t9 ?_, b2⟩
  have e5 : Value.ref T.heap.size = cv (Rf h.2.1) := by rw [hT9, hR.1]; rfl
  rw [e5]
  exact b1
