/-! LAYER 1: fields and new objects -/
def CFx (ci : Nat) (C : String) (T : u_T) (N : Nat) (ty : Nat → FieldType) : Prop := CL[ci]? = some (C, T, N) ∧ (∀ w ∈ u_ws C T N, w ∈ lw_all) ∧ (∀ k, k < N → parseFieldDescriptor (T k).2.2.1 = some (ty k)) ∧ (∀ a, a < N → ∀ b, b < N → a ≠ b → (T a).2.1 ≠ (T b).2.1) ∧ ci < 50
/-- what an instruction of the class 'own' with the pool entry idx says: field k of class ci -/
def FW (own : String) (idx ci k : Nat) (t : FieldType) (fin : Bool) : Prop := ∃ (C : String) (T : u_T) (N : Nat) (ty : Nat → FieldType), CFx ci C T N ty ∧ k < N ∧ ty k = t ∧ (T k).2.2.2 = fin ∧ ∃ ref : String,
  (Cond.fieldLink own idx ref (T k).2.1 (T k).2.2.1 ∈ lw_all ∨ ∃ host : String, Cond.fieldLinkNest own idx ref (T k).2.1 (T k).2.2.1 host ∈ lw_tbl) ∧ (ref = (T k).1 ∨ Cond.sameField ref (T k).1 (T k).2.1 (T k).2.2.1 ∈ lw_all)
/-- the same, of a field that 'own' itself declares -/
def FWo (own : String) (idx ci k : Nat) (t : FieldType) (fin : Bool) : Prop := ∃ (C : String) (T : u_T) (N : Nat) (ty : Nat → FieldType), CFx ci C T N ty ∧ k < N ∧ ty k = t ∧ (T k).2.2.2 = fin ∧ (T k).1 = own ∧ Cond.fieldLink own idx own (T k).2.1 (T k).2.2.1 ∈ lw_all
theorem FWo.fw {own : String} {idx ci k : Nat} {t : FieldType} {fin : Bool} (f : FWo own idx ci k t fin) : FW own idx ci k t fin := by
  obtain ⟨C, T, N, ty, h1, h2, h3, h4, h5, h6⟩ := f
  exact ⟨C, T, N, ty, h1, h2, h3, h4, own, Or.inl h6, Or.inl h5.symm⟩
theorem rp_P {D : GD} {a ci : Nat} {fs : List AV} {H : Heap} (h : oAt D a (oObj ci fs) H) (hc : ci < 50) : va_P D.1 CL [(a, .inr (ci, fs.map cv))] H := by
  simp only [oAt, if_pos hc] at h
  intro k q hk
  match k, hk with
  | 0, hk => cases hk; exact h
  | k + 1, hk => simp at hk
theorem nw_fl {a : String} {i : Nat} {b n d h : String} (hm : Cond.fieldLinkNest a i b n d h ∈ lw_tbl) {s : State} {args : Array Value} (K : NwK s) : (Cond.fieldLinkNest a i b n d h).before args s = true := va_Nw.use rfl (K _ hm rfl)
section HP
variable {M : MD} {d pc pc1 len : Nat} {l l1 : Lc} {st st1 : List AV} {h h' : AH} {o : AO} {Q : AO → AH → Prop}
theorem e_getf {idx ci k a : Nat} {t : FieldType} {fin : Bool} {tg : Tg} {fs : List AV} {v : AV} (f : FW (mY M).cls idx ci k t fin) (hT : mT M pc = some (.getfield idx, 3)) (hc : h.1 a = some (tg, oObj ci fs)) (hv : fs[k]? = some v) (kk : Ex M d (pc + 3) l (v :: st) h Q) : Ex M d pc l (Rf a :: st) h Q := by
  refine ex_of kk fun o h' r => ?_
  intro D b0 la p e R s m args below meth c s0 C h1 h2 h3 h4 H locs ls hR hlo hA hl
  obtain ⟨Cn, T, N, ty, ⟨f1, f2, f3, f4, f5⟩, f6, f7, f8, ref, f9, f10⟩ := f
  have hP := rp_P (hR.2.1 a tg _ hc).1 f5
  have hts := C.2.2.2.2.2.2.1
  have hsame : ∀ x, s.fieldFound? (T k).1 (T k).2.1 (T k).2.2.1 = some x → s.fieldFound? ref (T k).2.1 (T k).2.2.1 = some x := by
    intro x hx
    rcases f10 with e | e
    · rw [e]; exact hx
    · exact u_same (hts _ e) x hx
  have r1 := r D b0 la p e R s m args below meth c s0 C h1 h2 h3 h4 H locs ls hR hlo hA hl
  rcases f9 with e | ⟨host, e⟩
  · exact va_get (v := cv v) C.1 rfl hts f2 C.2.2.2.2.2.1 C.2.2.2.2.2.2.2.1.1 hP 0 rfl f1 k f6 (hts _ e) hsame (by rw [List.getElem?_map, hv]; rfl) (C.2.1 _ _ hT) r1
  · exact va_getN (v := cv v) C.1 rfl hts f2 C.2.2.2.2.2.1 C.2.2.2.2.2.2.2.1.1 hP 0 rfl f1 k f6 (nw_fl e C.2.2.2.2.2.2.2.1.2.1) hsame (by rw [List.getElem?_map, hv]; rfl) (C.2.1 _ _ hT) r1
/-- a value fits a field's type -/
def PN (t : FieldType) (v : AV) : Prop := narrow t (cv v) = cv v ∧ fits t (cv v) = true
theorem pn_int (a : Int) : PN .int (J a) := ⟨rfl, rfl⟩
theorem pn_long (a : Int) : PN .long (G a) := ⟨rfl, rfl⟩
theorem pn_bool {a : Int} (h : a = 0 ∨ a = 1) : PN .boolean (J a) := by
  rcases h with rfl | rfl
  · exact ⟨rfl, rfl⟩
  · exact ⟨rfl, rfl⟩
theorem pn_obj (C : String) (r : Option Nat) : PN (.object C) (Ro r) := by cases r <;> exact ⟨rfl, rfl⟩
theorem pn_arr (C : FieldType) (r : Option Nat) : PN (.array C) (Ro r) := by cases r <;> exact ⟨rfl, rfl⟩
theorem pn_byte {a : Int} (h1 : -128 ≤ a) (h2 : a ≤ 127) : PN .byte (J a) := by
  have e : (Int32.ofInt a).toInt8.toInt32 = Int32.ofInt a := by
    apply Int32.toInt_inj.mp
    rw [Int8.toInt_toInt32, Int32.toInt_toInt8, toInt_ofInt32 ⟨by omega, by omega⟩, Int.bmod_def]
    omega
  refine ⟨congrArg Value.int e, ?_⟩
  have h9 := pk_fb (Int32.ofInt a)
  rw [e] at h9
  exact h9
theorem map_set (fs : List AV) (k : Nat) (v : AV) : (fs.map cv).set k (cv v) = (fs.set k v).map cv := by rw [List.map_set]
theorem oAt_obj {D : GD} {a ci : Nat} {fs : List AV} {H : Heap} (hc : ci < 50) (h : va_at D.1 CL (a, .inr (ci, fs.map cv)) H) : oAt D a (oObj ci fs) H := by
  simp only [oAt, if_pos hc]
  exact h
theorem e_putf {idx ci k a : Nat} {t : FieldType} {tg : Tg} {fs : List AV} {v : AV} (f : FW (mY M).cls idx ci k t false) (hT : mT M pc = some (.putfield idx, 3)) (hc : h.1 a = some (tg, oObj ci fs)) (h0 : tg.1 ≠ 0) (hl0 : k < fs.length) (hn : PN t v) (kk : Ex M d (pc + 3) l st (hset h a (tg, oObj ci (fs.set k v))) Q) : Ex M d pc l (v :: Rf a :: st) h Q := by
  refine ex_on (fun w => w.set (w a _ hc)) (Grow.rf h) kk fun o h' g r => ?_
  intro D b0 la p e R s m args below meth c s0 C h1 h2 h3 h4 H locs ls hR hlo hA hl
  obtain ⟨Cn, T, N, ty, ⟨f1, f2, f3, f4, f5⟩, f6, f7, f8, ref, f9, f10⟩ := f
  have hP := rp_P (hR.2.1 a tg _ hc).1 f5
  have hba := (hR.2.1 a tg _ hc).2 h0
  have hts := C.2.2.2.2.2.2.1
  have hK := C.2.2.2.2.2.2.2.1.1
  have hown := C.2.2.2.2.2.1
  have hsame : ∀ x, s.fieldFound? (T k).1 (T k).2.1 (T k).2.2.1 = some x → s.fieldFound? ref (T k).2.1 (T k).2.2.1 = some x := by
    intro x hx
    rcases f10 with e | e
    · rw [e]; exact hx
    · exact u_same (hts _ e) x hx
  have hap := va_apart (own := (mY M).cls) hts f2 ty f3 f4 hK f1
  obtain ⟨r9, g1, cell, q1, q2, q3, q4⟩ := hP 0 _ rfl
  have hr : r9 = (Cn, T, N) := Option.some.inj (g1.symm.trans f1)
  subst hr
  obtain ⟨hS, hfc, kC, hkC, hkind⟩ := hK.1 ci _ f1
  obtain ⟨cf, kf, fi, ff, hi, hsl⟩ := hS k f6
  have hlay := hts _ (f2 _ (u_in_lay f6))
  unfold u_lay at hlay
  rw [if_neg (by rw [f8]; decide)] at hlay
  have hst := (u_facts hfc hkC (u_lays hts f2 f6) hi).1
  have h6 := u_store hfc hkC hkind hlay hi (by rw [f3 k f6, f7]) hn.1 hn.2
  have kk9 : ∀ H' : Heap, H'[a]? = some (cell.setSlot ff.slot (cv v)) → H'.size = H.size → (∀ q, q ≠ a → H'[q]? = H[q]?) → W p la e R s m args below meth c H' (locs ++ [⟨a, ff.slot⟩]) (h.2.1 - s.heap.size) (h.2.2.1 - s0) (EndP s below D b0 o h' (h'.2.1 - s.heap.size) (h'.2.2.1 - s0)) (F0 m (pc + 3) ls (st.map cv)) := by
    intro H' e1 e2 e3
    rw [hsl] at e1
    refine r D b0 la p e R s m args below meth c s0 C h1 h2 h3 h4 H' _ ls (hR.put hc (oAt_obj f5 ?_) e2 e3) ?_ ?_ hl
    · rw [← map_set]
      exact ⟨_, f1, t_OB.to (V := updV (vp_V (fs.map cv)) k (cv v)) ⟨_, e1, q2, q3, t_set q4 hap f6 (cv v)⟩ (fun j _ => vp_updV_set (by rw [List.length_map]; exact hl0) (cv v) j)⟩
    · intro z hz
      rcases List.mem_append.mp hz with hz | hz
      · exact hlo z hz
      · rw [List.mem_singleton.mp hz]; exact hba
    · intro q hq
      rw [e3 q (by omega)]
      exact hA q hq
  rcases f9 with e | ⟨host, e⟩
  · exact W.putK C.1 rfl (f := ff) ⟨hown, hts _ e, ⟨_, _, _, hsame _ hi⟩, hst⟩ (by rw [q2]; exact h6) q1 q3 (by rw [hsl]; exact k2_hasslot (q4 k f6)) rfl rfl (C.2.1 _ _ hT) kk9
  · exact va_WputK C.1 rfl hown (nw_fl e C.2.2.2.2.2.2.2.1.2.1) (hsame _ hi) hst (by rw [q2]; exact h6) q1 q3 (by rw [hsl]; exact k2_hasslot (q4 k f6)) rfl rfl (C.2.1 _ _ hT) kk9
/-- a final field, in a constructor of its class -/
theorem e_putF {idx ci k a : Nat} {t : FieldType} {tg : Tg} {fs : List AV} {v : AV} (f : FWo (mY M).cls idx ci k t true) (hi9 : (mY M).name = "<init>") (hT : mT M pc = some (.putfield idx, 3)) (hc : h.1 a = some (tg, oObj ci fs)) (h0 : tg.1 ≠ 0) (hl0 : k < fs.length) (hn : PN t v) (kk : Ex M d (pc + 3) l st (hset h a (tg, oObj ci (fs.set k v))) Q) : Ex M d pc l (v :: Rf a :: st) h Q := by
  refine ex_on (fun w => w.set (w a _ hc)) (Grow.rf h) kk fun o h' g r => ?_
  intro D b0 la p e R s m args below meth c s0 C h1 h2 h3 h4 H locs ls hR hlo hA hl
  obtain ⟨Cn, T, N, ty, ⟨f1, f2, f3, f4, f5⟩, f6, f7, f8, hdecl, hlink⟩ := f
  have hP := rp_P (hR.2.1 a tg _ hc).1 f5
  have hba := (hR.2.1 a tg _ hc).2 h0
  have hts := C.2.2.2.2.2.2.1
  have hK := C.2.2.2.2.2.2.2.1.1
  have hown := C.2.2.2.2.2.1
  have hap := va_apart (own := (mY M).cls) hts f2 ty f3 f4 hK f1
  obtain ⟨r9, g1, cell, q1, q2, q3, q4⟩ := hP 0 _ rfl
  have hr : r9 = (Cn, T, N) := Option.some.inj (g1.symm.trans f1)
  subst hr
  obtain ⟨hS, hfc, kC, hkC, hkind⟩ := hK.1 ci _ f1
  obtain ⟨cf, kf, fi, ff, hi, hsl⟩ := hS k f6
  have hlay := hts _ (f2 _ (u_in_lay f6))
  unfold u_lay at hlay
  rw [if_pos f8] at hlay
  have hst := (u_facts hfc hkC (u_lays hts f2 f6) hi).1
  have hcf : m.cls = cf := by
    obtain ⟨_, _, c', _, _, _, -, -, hf', -, -, -, hown2, -⟩ := Cond.laysFinal_spec hlay
    have e1 : c' = cf := by have := hi.symm.trans hf'; simp at this; exact this.1.symm
    rw [hdecl] at hown2
    rw [← e1]; exact Option.some.inj (hown.symm.trans hown2)
  have h6 := u_fits hfc hkC hkind (Or.inr hlay) hi (by rw [f3 k f6, f7]) hn.1 hn.2
  rw [hdecl] at hi
  refine W.putFinK C.1 rfl hown (hts _ hlink) hi hst hcf (C.2.2.2.2.2.2.2.2.2.2.2.1.trans hi9) (by rw [q2]; exact h6) q1 q3 (by rw [hsl]; exact k2_hasslot (q4 k f6)) rfl rfl (C.2.1 _ _ hT) fun H' e1 e2 e3 => ?_
  rw [hsl] at e1
  refine r D b0 la p e R s m args below meth c s0 C h1 h2 h3 h4 H' _ ls (hR.put hc (oAt_obj f5 ?_) e2 e3) ?_ ?_ hl
  · rw [← map_set]
    exact ⟨_, f1, t_OB.to (V := updV (vp_V (fs.map cv)) k (cv v)) ⟨_, e1, q2, q3, t_set q4 hap f6 (cv v)⟩ (fun j _ => vp_updV_set (by rw [List.length_map]; exact hl0) (cv v) j)⟩
  · intro z hz
    rcases List.mem_append.mp hz with hz | hz
    · exact hlo z hz
    · rw [List.mem_singleton.mp hz]; exact hba
  · intro q hq
    rw [e3 q (Nat.ne_of_lt (Nat.lt_of_lt_of_le hq hba))]
    exact hA q hq
/-- what 'new' says -/
def NW (own : String) (idx ci N : Nat) (fs : List AV) : Prop := ∃ (C : String) (T : u_T) (ty : Nat → FieldType), CFx ci C T N ty ∧ Cond.classLink own idx C ∈ lw_all ∧ Cond.instantiable C N ∈ lw_all ∧ Cond.initialized C ∈ lw_all ∧ ∀ j, j < N → defaultValue (ty j) = vp_V (fs.map cv) j
theorem e_new {idx ci N : Nat} {fs : List AV} (tg : Tg) (f : NW (mY M).cls idx ci N fs) (hT : mT M pc = some (.new idx, 3)) (kk : Ex M d (pc + 3) l (Rf h.2.1 :: st) (hnew h (tg, oObj ci fs) N) Q) : Ex M d pc l st h Q := by
  refine ex_on (fun w => w.new) ⟨Nat.le_succ _, Nat.le_add_right _ _, rfl⟩ kk fun o h' g r => ?_
  intro D b0 la p e R s m args below meth c s0 C h1 h2 h3 h4 H locs ls hR hlo hA hl
  obtain ⟨Cn, T, ty, ⟨f1, f2, f3, f4, f5⟩, f6, f7, f8, f9⟩ := f
  have hts := C.2.2.2.2.2.2.1
  have hK := C.2.2.2.2.2.2.2.1.1
  have hKn := hK.1 ci _ f1
  have hb : b0 ≤ H.size := by rw [hR.1]; exact Nat.le_trans C.2.2.2.2.2.2.2.2.2.2.2.2.2 h3
  obtain ⟨ga, gb, gc⟩ := g
  have ga : h.2.1 + 1 ≤ h'.2.1 := ga
  have gb : h.2.2.1 + N ≤ h'.2.2.1 := gb
  refine W.newcK C.1 rfl C.2.2.2.2.2.1 (hts _ f6) (hts _ f7) (hts _ f8) rfl (C.2.1 _ _ hT) (by omega) (by omega) hKn.2.1 rfl fun H1 kC hkC e1 z1 o1 => ?_
  have r1 := r D b0 la p e R s m args below meth c s0 C h1 h2 (show s.heap.size ≤ h.2.1 + 1 by omega) (show s0 ≤ h.2.2.1 + N by omega) H1 locs ls (hR.new hb (oAt_obj f5 ⟨_, f1, (u_born ty hts f2 hKn hkC e1 f3).to f9⟩) z1 o1) hlo (fun q hq => by rw [o1 q (by omega)]; exact hA q hq) hl
  have e3 : (hnew h (tg, oObj ci fs) N).2.1 - s.heap.size = h.2.1 - s.heap.size + 1 := by show h.2.1 + 1 - s.heap.size = _; omega
  have e4 : (hnew h (tg, oObj ci fs) N).2.2.1 - s0 = h.2.2.1 - s0 + N := by show h.2.2.1 + N - s0 = _; omega
  rw [e3, e4] at r1
  show W p la e R s m args below meth c H1 locs _ _ _ (F0 m (pc + 3) ls (Value.ref H.size :: st.map cv))
  rw [hR.1]
  exact r1
end HP
