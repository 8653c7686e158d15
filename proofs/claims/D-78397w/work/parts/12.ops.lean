/-! LAYER 1: the steps that touch the frame alone -/
def pstep (nL : Nat) (i : Instr) (len pc : Nat) (l : Lc) (st : List AV) : Option (Nat × Lc × List AV) :=
  match i, len, st with
  | .iconst n, 1, st => some (pc + 1, l, J n :: st)
  | .bipush n, 2, st => bif decide (-128 ≤ n) && decide (n ≤ 127) then some (pc + 2, l, J n :: st) else none
  | .sipush n, 3, st => bif decide (-32768 ≤ n) && decide (n ≤ 32767) then some (pc + 3, l, J n :: st) else none
  | .lconst n, 1, st => some (pc + 1, l, G (n.val : Int) :: st)
  | .aconst_null, 1, st => some (pc + 1, l, Rn :: st)
  | .iload_n k, 1, st => match lget l k.val with | some (.inl x) => some (pc + 1, l, J x :: st) | _ => none
  | .iload k, 2, st => match lget l k with | some (.inl x) => some (pc + 2, l, J x :: st) | _ => none
  | .lload_n k, 1, st => match lget l k.val with | some (.inr (.inl x)) => some (pc + 1, l, G x :: st) | _ => none
  | .lload k, 2, st => match lget l k with | some (.inr (.inl x)) => some (pc + 2, l, G x :: st) | _ => none
  | .aload_n k, 1, st => match lget l k.val with | some (.inr (.inr x)) => some (pc + 1, l, Ro x :: st) | _ => none
  | .aload k, 2, st => match lget l k with | some (.inr (.inr x)) => some (pc + 2, l, Ro x :: st) | _ => none
  | .istore_n k, 1, .inl x :: st => bif Nat.blt k.val nL then some (pc + 1, lset1 l k.val (J x), st) else none
  | .istore k, 2, .inl x :: st => bif Nat.blt k nL then some (pc + 2, lset1 l k (J x), st) else none
  | .astore_n k, 1, .inr (.inr x) :: st => bif Nat.blt k.val nL then some (pc + 1, lset1 l k.val (Ro x), st) else none
  | .astore k, 2, .inr (.inr x) :: st => bif Nat.blt k nL then some (pc + 2, lset1 l k (Ro x), st) else none
  | .lstore_n k, 1, .inr (.inl x) :: st => bif Nat.blt (k.val + 1) nL then some (pc + 1, lset2 l k.val (G x), st) else none
  | .lstore k, 2, .inr (.inl x) :: st => bif Nat.blt (k + 1) nL then some (pc + 2, lset2 l k (G x), st) else none
  | .iinc k n, 3, st => match lget l k with | some (.inl x) => bif Nat.blt k nL then some (pc + 3, lset1 l k (J (x + n)), st) else none | _ => none
  | .iadd, 1, .inl y :: .inl x :: st => some (pc + 1, l, J (x + y) :: st)
  | .isub, 1, .inl y :: .inl x :: st => some (pc + 1, l, J (x - y) :: st)
  | .imul, 1, .inl y :: .inl x :: st => some (pc + 1, l, J (x * y) :: st)
  | .ineg, 1, .inl x :: st => some (pc + 1, l, J (-x) :: st)
  | .ladd, 1, .inr (.inl y) :: .inr (.inl x) :: st => some (pc + 1, l, G (x + y) :: st)
  | .lsub, 1, .inr (.inl y) :: .inr (.inl x) :: st => some (pc + 1, l, G (x - y) :: st)
  | .lmul, 1, .inr (.inl y) :: .inr (.inl x) :: st => some (pc + 1, l, G (x * y) :: st)
  | .lneg, 1, .inr (.inl x) :: st => some (pc + 1, l, G (-x) :: st)
  | .dup, 1, .inl x :: st => some (pc + 1, l, J x :: J x :: st)
  | .dup, 1, .inr (.inr x) :: st => some (pc + 1, l, Ro x :: Ro x :: st)
  | .dup_x1, 1, .inl x :: .inr (.inr y) :: st => some (pc + 1, l, J x :: Ro y :: J x :: st)
  | .dup_x1, 1, .inr (.inr x) :: .inr (.inr y) :: st => some (pc + 1, l, Ro x :: Ro y :: Ro x :: st)
  | .dup2, 1, .inl x :: .inr (.inr y) :: st => some (pc + 1, l, J x :: Ro y :: J x :: Ro y :: st)
  | .dup2, 1, .inr (.inl x) :: st => some (pc + 1, l, G x :: G x :: st)
  | .pop, 1, .inl _ :: st => some (pc + 1, l, st)
  | .pop, 1, .inr (.inr _) :: st => some (pc + 1, l, st)
  | .goto off, 3, st => bif decide (0 ≤ (pc : Int) + off) then some (((pc : Int) + off).toNat, l, st) else none
  | _, _, _ => none
def prun (M : MD) : Nat → Nat → Lc → List AV → Option (Nat × Lc × List AV)
  | 0, pc, l, st => some (pc, l, st)
  | n + 1, pc, l, st => match mT M pc with
    | some (i, len) => match pstep (mL M) i len pc l st with
      | some (pc1, l1, st1) => prun M n pc1 l1 st1
      | none => none
    | none => none
theorem ofInt8_32 {n : Int} (h : -128 ≤ n) (h2 : n ≤ 127) : (Int8.ofInt n).toInt32 = Int32.ofInt n := by
  apply Int32.toInt_inj.mp
  rw [Int8.toInt_toInt32, toInt_ofInt32 ⟨by omega, by omega⟩, Int8.toInt_ofInt, show Int8.size = 256 from rfl, Int.bmod_def]
  omega
theorem ofInt16_32 {n : Int} (h : -32768 ≤ n) (h2 : n ≤ 32767) : (Int16.ofInt n).toInt32 = Int32.ofInt n := by
  apply Int32.toInt_inj.mp
  rw [Int16.toInt_toInt32, toInt_ofInt32 ⟨by omega, by omega⟩, Int16.toInt_ofInt, show Int16.size = 65536 from rfl, Int.bmod_def]
  omega
theorem cat_Ro (x : Option Nat) : (va_rf x).category = 1 := by cases x <;> rfl
section PS
variable {M : MD} {d pc pc1 len : Nat} {l l1 : Lc} {st st1 : List AV} {h h' : AH} {o : AO}
/-- what the frame's steps share -/
theorem rch_of {l1 : Lc} (f : ∀ (p : Program) (la : Launch) (e : Env) (R : Room) (s : State) (m : MethodId) (args : Array Value) (below : List Frame) (meth : Method) (c : Code) (H : Heap) (locs : List Loc) (cells slots : Nat) (Q : State → Prop) (ls : Array Slot),
    p.tables.exec = Jvm.exec → (∀ pc x, mT M pc = some x → decode c.code pc = .ok x) → lv_has ls (mL M) (l.map cvl) → (∀ ls1, lv_has ls1 (mL M) (l1.map cvl) → W p la e R s m args below meth c H locs cells slots Q (F0 m pc1 ls1 (st1.map cv))) → W p la e R s m args below meth c H locs cells slots Q (F0 m pc ls (st.map cv)))
    (r : Rch M d pc1 l1 st1 h o h') : Rch M d pc l st h o h' := by
  intro D b0 la p e R s m args below meth c s0 C h1 h2 h3 h4 H locs ls hR hlo hA hl
  exact f p la e R s m args below meth c H locs _ _ _ ls C.1 C.2.1 hl fun ls1 hl1 => r D b0 la p e R s m args below meth c s0 C h1 h2 h3 h4 H locs ls1 hR hlo hA hl1
end PS
/-- a frame's step is sound -/
theorem pstep_sound {M : MD} {d pc pc1 len : Nat} {i : Instr} {l l1 : Lc} {st st1 : List AV} {h h' : AH} {o : AO} (hT : mT M pc = some (i, len)) (hp : pstep (mL M) i len pc l st = some (pc1, l1, st1)) (r : Rch M d pc1 l1 st1 h o h') : Rch M d pc l st h o h' := by
  unfold pstep at hp
  split at hp
  · cases hp
    refine rch_of (fun p la e R s m args below meth c H locs cells slots Q ls hx hdec hl k => ?_) r
    exact lv_iconst hx rfl (hdec _ _ hT) rfl (k ls hl)
  · rename_i n
    cases hb : (decide (-128 ≤ n) && decide (n ≤ 127)) with
    | false => rw [hb] at hp; cases hp
    | true =>
      rw [hb] at hp
      cases hp
      simp only [Bool.and_eq_true, decide_eq_true_eq] at hb
      refine rch_of (fun p la e R s m args below meth c H locs cells slots Q ls hx hdec hl k => ?_) r
      exact lv_bipush hx rfl (hdec _ _ hT) (ofInt8_32 hb.1 hb.2) (k ls hl)
  · rename_i n
    cases hb : (decide (-32768 ≤ n) && decide (n ≤ 32767)) with
    | false => rw [hb] at hp; cases hp
    | true =>
      rw [hb] at hp
      cases hp
      simp only [Bool.and_eq_true, decide_eq_true_eq] at hb
      refine rch_of (fun p la e R s m args below meth c H locs cells slots Q ls hx hdec hl k => ?_) r
      exact lv_sipush hx rfl (hdec _ _ hT) (ofInt16_32 hb.1 hb.2) (k ls hl)
  · cases hp
    refine rch_of (fun p la e R s m args below meth c H locs cells slots Q ls hx hdec hl k => ?_) r
    exact lv_lconst hx rfl (hdec _ _ hT) (by rw [Int64.ofInt_eq_ofNat]) (k ls hl)
  · cases hp
    refine rch_of (fun p la e R s m args below meth c H locs cells slots Q ls hx hdec hl k => ?_) r
    exact lv_null hx rfl (hdec _ _ hT) (k ls hl)
  · split at hp
    · rename_i x hg
      cases hp
      refine rch_of (fun p la e R s m args below meth c H locs cells slots Q ls hx hdec hl k => ?_) r
      exact lv_iload_n hx rfl (hdec _ _ hT) rfl (lget_at hl hg) (k ls hl)
    · cases hp
  · split at hp
    · rename_i x hg
      cases hp
      refine rch_of (fun p la e R s m args below meth c H locs cells slots Q ls hx hdec hl k => ?_) r
      exact lv_iload hx rfl (hdec _ _ hT) (lget_at hl hg) (k ls hl)
    · cases hp
  · split at hp
    · rename_i x hg
      cases hp
      refine rch_of (fun p la e R s m args below meth c H locs cells slots Q ls hx hdec hl k => ?_) r
      exact lv_lload_n hx rfl (hdec _ _ hT) rfl (lget_at hl hg) (k ls hl)
    · cases hp
  · split at hp
    · rename_i x hg
      cases hp
      refine rch_of (fun p la e R s m args below meth c H locs cells slots Q ls hx hdec hl k => ?_) r
      exact lv_lload hx rfl (hdec _ _ hT) (lget_at hl hg) (k ls hl)
    · cases hp
  · split at hp
    · rename_i x hg
      cases hp
      refine rch_of (fun p la e R s m args below meth c H locs cells slots Q ls hx hdec hl k => ?_) r
      have hg := lget_at hl hg
      cases x with
      | none => exact lv_aload_nN hx rfl (hdec _ _ hT) rfl hg (k ls hl)
      | some a => exact lv_aload_n hx rfl (hdec _ _ hT) rfl hg (k ls hl)
    · cases hp
  · split at hp
    · rename_i x hg
      cases hp
      refine rch_of (fun p la e R s m args below meth c H locs cells slots Q ls hx hdec hl k => ?_) r
      have hg := lget_at hl hg
      cases x with
      | none => exact lv_aloadN hx rfl (hdec _ _ hT) hg (k ls hl)
      | some a => exact lv_aload hx rfl (hdec _ _ hT) hg (k ls hl)
    · cases hp
  · rename_i k0 x rest
    cases hb : Nat.blt k0.val (mL M) with
    | false => rw [hb] at hp; cases hp
    | true =>
      rw [hb] at hp
      cases hp
      have hb := Nat.blt_eq.mp hb
      refine rch_of (fun p la e R s m args below meth c H locs cells slots Q ls hx hdec hl k => ?_) r
      exact lv_istore_n hx rfl (hdec _ _ hT) rfl hl hb (map_filter1 l _ (J x)) k
  · rename_i k0 x rest
    cases hb : Nat.blt k0 (mL M) with
    | false => rw [hb] at hp; cases hp
    | true =>
      rw [hb] at hp
      cases hp
      have hb := Nat.blt_eq.mp hb
      refine rch_of (fun p la e R s m args below meth c H locs cells slots Q ls hx hdec hl k => ?_) r
      exact lv_istore hx rfl (hdec _ _ hT) hl hb (map_filter1 l _ (J x)) k
  · rename_i k0 x rest
    cases hb : Nat.blt k0.val (mL M) with
    | false => rw [hb] at hp; cases hp
    | true =>
      rw [hb] at hp
      cases hp
      have hb := Nat.blt_eq.mp hb
      refine rch_of (fun p la e R s m args below meth c H locs cells slots Q ls hx hdec hl k => ?_) r
      cases x with
      | none => exact lv_astore_nN hx rfl (hdec _ _ hT) rfl hl hb (map_filter1 l _ (Ro none)) k
      | some a => exact lv_astore_n hx rfl (hdec _ _ hT) rfl hl hb (map_filter1 l _ (Ro (some a))) k
  · rename_i k0 x rest
    cases hb : Nat.blt k0 (mL M) with
    | false => rw [hb] at hp; cases hp
    | true =>
      rw [hb] at hp
      cases hp
      have hb := Nat.blt_eq.mp hb
      refine rch_of (fun p la e R s m args below meth c H locs cells slots Q ls hx hdec hl k => ?_) r
      cases x with
      | none => exact lv_astoreN hx rfl (hdec _ _ hT) hl hb (map_filter1 l _ (Ro none)) k
      | some a => exact lv_astore hx rfl (hdec _ _ hT) hl hb (map_filter1 l _ (Ro (some a))) k
  · rename_i k0 x rest
    cases hb : Nat.blt (k0.val + 1) (mL M) with
    | false => rw [hb] at hp; cases hp
    | true =>
      rw [hb] at hp
      cases hp
      have hb := Nat.blt_eq.mp hb
      refine rch_of (fun p la e R s m args below meth c H locs cells slots Q ls hx hdec hl k => ?_) r
      exact lv_lstore_n hx rfl (hdec _ _ hT) rfl hl hb (map_filter2 l _ (G x)) k
  · rename_i k0 x rest
    cases hb : Nat.blt (k0 + 1) (mL M) with
    | false => rw [hb] at hp; cases hp
    | true =>
      rw [hb] at hp
      cases hp
      have hb := Nat.blt_eq.mp hb
      refine rch_of (fun p la e R s m args below meth c H locs cells slots Q ls hx hdec hl k => ?_) r
      exact lv_lstore hx rfl (hdec _ _ hT) hl hb (map_filter2 l _ (G x)) k
  · rename_i k0 n
    split at hp
    · rename_i x hg
      cases hb : Nat.blt k0 (mL M) with
      | false => rw [hb] at hp; cases hp
      | true =>
        rw [hb] at hp
        cases hp
        have hb := Nat.blt_eq.mp hb
        refine rch_of (fun p la e R s m args below meth c H locs cells slots Q ls hx hdec hl k => ?_) r
        have hg1 : (k0, Value.int (Int32.ofInt x)) ∈ l.map cvl := List.mem_map.mpr ⟨_, lget_mem hg, rfl⟩
        obtain ⟨kk, hkk⟩ := List.getElem?_of_mem hg1
        exact lv_iinc (k := kk) (v := Int32.ofInt (x + n)) hx rfl (hdec _ _ hT) hl hkk (by rw [Int32.ofInt_add]) hb (map_filter1 l _ (J (x + n))) k
    · cases hp
  · cases hp
    refine rch_of (fun p la e R s m args below meth c H locs cells slots Q ls hx hdec hl k => ?_) r
    refine lv_iadd hx rfl (hdec _ _ hT) ?_
    rw [← Int32.ofInt_add]
    exact k ls hl
  · cases hp
    refine rch_of (fun p la e R s m args below meth c H locs cells slots Q ls hx hdec hl k => ?_) r
    refine lv_isub hx rfl (hdec _ _ hT) ?_
    rw [← Int32.ofInt_sub]
    exact k ls hl
  · cases hp
    refine rch_of (fun p la e R s m args below meth c H locs cells slots Q ls hx hdec hl k => ?_) r
    refine lv_imul hx rfl (hdec _ _ hT) ?_
    rw [← Int32.ofInt_mul]
    exact k ls hl
  · cases hp
    refine rch_of (fun p la e R s m args below meth c H locs cells slots Q ls hx hdec hl k => ?_) r
    refine lv_ineg hx rfl (hdec _ _ hT) ?_
    rw [← Int32.ofInt_neg]
    exact k ls hl
  · cases hp
    refine rch_of (fun p la e R s m args below meth c H locs cells slots Q ls hx hdec hl k => ?_) r
    refine lv_ladd hx rfl (hdec _ _ hT) ?_
    rw [← Int64.ofInt_add]
    exact k ls hl
  · cases hp
    refine rch_of (fun p la e R s m args below meth c H locs cells slots Q ls hx hdec hl k => ?_) r
    refine lv_lsub hx rfl (hdec _ _ hT) ?_
    rw [← Int64.ofInt_sub]
    exact k ls hl
  · cases hp
    refine rch_of (fun p la e R s m args below meth c H locs cells slots Q ls hx hdec hl k => ?_) r
    refine lv_lmul hx rfl (hdec _ _ hT) ?_
    rw [← Int64.ofInt_mul]
    exact k ls hl
  · cases hp
    refine rch_of (fun p la e R s m args below meth c H locs cells slots Q ls hx hdec hl k => ?_) r
    refine lv_lneg hx rfl (hdec _ _ hT) ?_
    rw [← Int64.ofInt_neg]
    exact k ls hl
  · cases hp
    refine rch_of (fun p la e R s m args below meth c H locs cells slots Q ls hx hdec hl k => ?_) r
    exact lv_dup hx rfl (hdec _ _ hT) rfl (k ls hl)
  · cases hp
    refine rch_of (fun p la e R s m args below meth c H locs cells slots Q ls hx hdec hl k => ?_) r
    exact lv_dup hx rfl (hdec _ _ hT) (cat_Ro _) (k ls hl)
  · cases hp
    refine rch_of (fun p la e R s m args below meth c H locs cells slots Q ls hx hdec hl k => ?_) r
    exact lv_dup_x1 hx rfl (hdec _ _ hT) rfl (cat_Ro _) (k ls hl)
  · cases hp
    refine rch_of (fun p la e R s m args below meth c H locs cells slots Q ls hx hdec hl k => ?_) r
    exact lv_dup_x1 hx rfl (hdec _ _ hT) (cat_Ro _) (cat_Ro _) (k ls hl)
  · cases hp
    refine rch_of (fun p la e R s m args below meth c H locs cells slots Q ls hx hdec hl k => ?_) r
    exact lv_dup2_11 hx rfl (hdec _ _ hT) rfl (cat_Ro _) (k ls hl)
  · cases hp
    refine rch_of (fun p la e R s m args below meth c H locs cells slots Q ls hx hdec hl k => ?_) r
    exact lv_dup2_2 hx rfl (hdec _ _ hT) rfl (k ls hl)
  · cases hp
    refine rch_of (fun p la e R s m args below meth c H locs cells slots Q ls hx hdec hl k => ?_) r
    exact lv_pop hx rfl (hdec _ _ hT) rfl (k ls hl)
  · cases hp
    refine rch_of (fun p la e R s m args below meth c H locs cells slots Q ls hx hdec hl k => ?_) r
    exact lv_pop hx rfl (hdec _ _ hT) (cat_Ro _) (k ls hl)
  · rename_i off
    cases hb : decide (0 ≤ (pc : Int) + off) with
    | false => rw [hb] at hp; cases hp
    | true =>
      rw [hb] at hp
      cases hp
      have hb := of_decide_eq_true hb
      refine rch_of (fun p la e R s m args below meth c H locs cells slots Q ls hx hdec hl k => ?_) r
      exact lv_goto hx rfl (hdec _ _ hT) (by omega) (k ls hl)
  · cases hp
theorem prun_sound {M : MD} {d : Nat} {h h' : AH} {o : AO} : ∀ (n pc : Nat) (l : Lc) (st : List AV) (pc1 : Nat) (l1 : Lc) (st1 : List AV), prun M n pc l st = some (pc1, l1, st1) → Rch M d pc1 l1 st1 h o h' → Rch M d pc l st h o h' := by
  intro n
  induction n with
  | zero =>
    intro pc l st pc1 l1 st1 hp r
    cases hp
    exact r
  | succ n ih =>
    intro pc l st pc1 l1 st1 hp r
    unfold prun at hp
    split at hp
    · rename_i i len hT
      split at hp
      · rename_i pc2 l2 st2 hs
        exact pstep_sound hT hs (ih _ _ _ _ _ _ hp r)
      · cases hp
    · cases hp
/-- n steps of the frame at once -/
theorem e_run {M : MD} {d pc : Nat} {l : Lc} {st : List AV} {h : AH} {Q : AO → AH → Prop} (n pc1 : Nat) {l1 : Lc} {st1 : List AV} (hp : prun M n pc l st = some (pc1, l1, st1)) (k : Ex M d pc1 l1 st1 h Q) : Ex M d pc l st h Q :=
  ex_of k fun o h' r => prun_sound n pc l st pc1 l1 st1 hp r
