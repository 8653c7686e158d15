/-! LAYER 1: a small program logic over an abstract heap. Values are whole numbers; addresses are numbers; an execution is told by its outcome and its last heap. -/
abbrev AV : Type := Int ⊕ (Int ⊕ Option Nat)
abbrev J (a : Int) : AV := .inl a
abbrev G (a : Int) : AV := .inr (.inl a)
abbrev Ro (r : Option Nat) : AV := .inr (.inr r)
abbrev Rf (a : Nat) : AV := .inr (.inr (some a))
abbrev Rn : AV := .inr (.inr none)
def cv : AV → Value
  | .inl a => .int (Int32.ofInt a)
  | .inr (.inl a) => .long (Int64.ofInt a)
  | .inr (.inr r) => va_rf r
def isL : AV → Bool
  | .inr (.inl _) => true
  | _ => false
theorem cat_cv (v : AV) : ((cv v).category == 2) = isL v := by
  rcases v with a | a | r
  · rfl
  · rfl
  · cases r <;> rfl
theorem cat1_cv {v : AV} (h : isL v = false) : (cv v).category = 1 := by
  rcases v with a | a | r
  · rfl
  · cases h
  · cases r <;> rfl
theorem va_rf_some (a : Nat) : va_rf (some a) = .ref a := rfl
theorem va_rf_none : va_rf none = .null := rfl
/-! locals -/
abbrev Lc : Type := List (Nat × AV)
def cvl (q : Nat × AV) : Nat × Value := (q.1, cv q.2)
def lget : Lc → Nat → Option AV
  | [], _ => none
  | (j, v) :: t, i => bif Nat.beq j i then some v else lget t i
def lset1 (l : Lc) (i : Nat) (v : AV) : Lc := (i, v) :: l.filter (fun q => !(q.1 == i) && !(q.1 + 1 == i && isL q.2))
def lset2 (l : Lc) (i : Nat) (v : AV) : Lc := (i, v) :: l.filter (fun q => !(q.1 == i) && (!(q.1 == i + 1) && !(q.1 + 1 == i && isL q.2)))
theorem lget_mem {l : Lc} {i : Nat} {v : AV} (h : lget l i = some v) : (i, v) ∈ l := by
  induction l with
  | nil => cases h
  | cons q t ih =>
    obtain ⟨j, w⟩ := q
    unfold lget at h
    cases hb : Nat.beq j i with
    | true =>
      rw [hb] at h
      simp only [cond_true, Option.some.injEq] at h
      rw [Nat.eq_of_beq_eq_true hb, h]
      exact List.mem_cons_self
    | false =>
      rw [hb] at h
      simp only [cond_false] at h
      exact List.mem_cons_of_mem _ (ih h)
theorem lget_at {ls : Array Slot} {nL : Nat} {l : Lc} (h : lv_has ls nL (l.map cvl)) {i : Nat} {v : AV} (hk : lget l i = some v) : ls[i]? = some (.val (cv v)) :=
  h.2.2 (i, cv v) (List.mem_map.mpr ⟨(i, v), lget_mem hk, rfl⟩)
theorem map_filter1 (l : Lc) (i : Nat) (v : AV) : (i, cv v) :: (l.map cvl).filter (fun q => !(q.1 == i) && !(q.1 + 1 == i && q.2.category == 2)) = (lset1 l i v).map cvl := by
  unfold lset1
  rw [List.map_cons, List.filter_map]
  congr 2
  apply List.filter_congr
  intro q _
  simp only [Function.comp_apply, cvl, cat_cv]
theorem map_filter2 (l : Lc) (i : Nat) (v : AV) : (i, cv v) :: (l.map cvl).filter (fun q => !(q.1 == i) && (!(q.1 == i + 1) && !(q.1 + 1 == i && q.2.category == 2))) = (lset2 l i v).map cvl := by
  unfold lset2
  rw [List.map_cons, List.filter_map]
  congr 2
  apply List.filter_congr
  intro q _
  simp only [Function.comp_apply, cvl, cat_cv]
/-- fewer locals -/
def LSub (l : Lc) : Lc → Prop
  | [] => True
  | q :: t => lget l q.1 = some q.2 ∧ LSub l t
theorem LSub.mem {l l' : Lc} (h : LSub l l') : ∀ q ∈ l', lget l q.1 = some q.2 := by
  induction l' with
  | nil => intro q hq; cases hq
  | cons a t ih =>
    intro q hq
    rcases List.mem_cons.mp hq with rfl | hq
    · exact h.1
    · exact ih h.2 q hq
theorem LSub.has {ls : Array Slot} {nL : Nat} {l l' : Lc} (h : LSub l l') (hl : lv_has ls nL (l.map cvl)) : lv_has ls nL (l'.map cvl) := by
  refine ⟨hl.1, hl.2.1, fun q hq => ?_⟩
  obtain ⟨q', hq', rfl⟩ := List.mem_map.mp hq
  exact lget_at hl (h.mem q' hq')
/-! the abstract heap -/
abbrev ArrC : Type := (Nat → Int) ⊕ (Nat → Option Nat)
abbrev Obj : Type := (Nat × Nat × ArrC) ⊕ (Nat × List AV)
abbrev Tg : Type := Nat × Nat
abbrev AH : Type := (Nat → Option (Tg × Obj)) × Nat × Nat × (Nat → AV)
abbrev oArr (t n : Nat) (g : Nat → Int) : Obj := .inl (t, n, .inl g)
abbrev oRef (t n : Nat) (g : Nat → Option Nat) : Obj := .inl (t, n, .inr g)
abbrev oObj (c : Nat) (fs : List AV) : Obj := .inr (c, fs)
def Wf (h : AH) : Prop := ∀ a x, h.1 a = some x → a < h.2.1
def hset (h : AH) (a : Nat) (x : Tg × Obj) : AH := (fun q => if q = a then some x else h.1 q, h.2.1, h.2.2)
def hnew (h : AH) (x : Tg × Obj) (n : Nat) : AH := (fun q => if q = h.2.1 then some x else h.1 q, h.2.1 + 1, h.2.2.1 + n, h.2.2.2)
theorem hset_at {h : AH} {a : Nat} {x : Tg × Obj} : (hset h a x).1 a = some x := by simp [hset]
theorem hset_ne {h : AH} {a q : Nat} {x : Tg × Obj} (hq : q ≠ a) : (hset h a x).1 q = h.1 q := by simp [hset, hq]
theorem hnew_at {h : AH} {x : Tg × Obj} {n : Nat} : (hnew h x n).1 h.2.1 = some x := by simp [hnew]
theorem hnew_ne {h : AH} {q : Nat} {x : Tg × Obj} {n : Nat} (hq : q ≠ h.2.1) : (hnew h x n).1 q = h.1 q := by simp [hnew, hq]
theorem hnew_old {h : AH} (w : Wf h) {q : Nat} {x y : Tg × Obj} {n : Nat} (hq : h.1 q = some y) : (hnew h x n).1 q = some y := by
  rw [hnew_ne (Nat.ne_of_lt (w q y hq))]; exact hq
theorem Wf.set {h : AH} (w : Wf h) {a : Nat} {x : Tg × Obj} (ha : a < h.2.1) : Wf (hset h a x) := by
  intro q y hq
  by_cases e : q = a
  · rw [e]; exact ha
  · rw [hset_ne e] at hq; exact w q y hq
theorem Wf.new {h : AH} (w : Wf h) {x : Tg × Obj} {n : Nat} : Wf (hnew h x n) := by
  intro q y hq
  show q < h.2.1 + 1
  by_cases e : q = h.2.1
  · omega
  · rw [hnew_ne e] at hq
    exact Nat.lt_succ_of_lt (w q y hq)
abbrev I32 (a : Int) : Prop := -2147483648 ≤ a ∧ a ≤ 2147483647
abbrev I64 (a : Int) : Prop := -9223372036854775808 ≤ a ∧ a ≤ 9223372036854775807
theorem toInt_ofInt32 {a : Int} (h : I32 a) : (Int32.ofInt a).toInt = a := by
  have h1 := h.1
  have h2 := h.2
  rw [Int32.toInt_ofInt, show Int32.size = 4294967296 from rfl, Int.bmod_def]
  omega
theorem toInt_ofInt64 {a : Int} (h : I64 a) : (Int64.ofInt a).toInt = a := by
  have h1 := h.1
  have h2 := h.2
  rw [Int64.toInt_ofInt, show Int64.size = 18446744073709551616 from rfl, Int.bmod_def]
  omega
theorem ofInt32_inj {a b : Int} (ha : I32 a) (hb : I32 b) : Int32.ofInt a = Int32.ofInt b ↔ a = b :=
  ⟨fun h => by rw [← toInt_ofInt32 ha, ← toInt_ofInt32 hb, h], fun h => by rw [h]⟩
theorem ofInt64_inj {a b : Int} (ha : I64 a) (hb : I64 b) : Int64.ofInt a = Int64.ofInt b ↔ a = b :=
  ⟨fun h => by rw [← toInt_ofInt64 ha, ← toInt_ofInt64 hb, h], fun h => by rw [h]⟩
theorem ofInt32_lt {a b : Int} (ha : I32 a) (hb : I32 b) : Int32.ofInt a < Int32.ofInt b ↔ a < b := by
  rw [Int32.lt_iff_toInt_lt, toInt_ofInt32 ha, toInt_ofInt32 hb]
theorem ofInt32_le {a b : Int} (ha : I32 a) (hb : I32 b) : Int32.ofInt a ≤ Int32.ofInt b ↔ a ≤ b := by
  rw [Int32.le_iff_toInt_le, toInt_ofInt32 ha, toInt_ofInt32 hb]
theorem ofInt64_lt {a b : Int} (ha : I64 a) (hb : I64 b) : Int64.ofInt a < Int64.ofInt b ↔ a < b := by
  rw [Int64.lt_iff_toInt_lt, toInt_ofInt64 ha, toInt_ofInt64 hb]
theorem ofInt64_le {a b : Int} (ha : I64 a) (hb : I64 b) : Int64.ofInt a ≤ Int64.ofInt b ↔ a ≤ b := by
  rw [Int64.le_iff_toInt_le, toInt_ofInt64 ha, toInt_ofInt64 hb]
/-- an index in range -/
theorem ix_in {i : Int} {n : Nat} (h0 : 0 ≤ i) (h1 : i < n) (hn : i ≤ 2147483647) : vp_in (Int32.ofInt i) n ∧ (Int32.ofInt i).toNatClampNeg = i.toNat := by
  have e : (Int32.ofInt i).toInt = i := toInt_ofInt32 ⟨by omega, hn⟩
  refine ⟨vp_in_iff.mpr ⟨by omega, by omega⟩, ?_⟩
  show (Int32.ofInt i).toInt.toNat = i.toNat
  rw [e]
