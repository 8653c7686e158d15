/-! LAYER 1: branches, and the steps with conditions -/
theorem z32 : Int32.ofInt 0 = 0 := rfl
theorem z64 : Int64.ofInt 0 = 0 := rfl
theorem iz32 : I32 0 := ⟨by omega, by omega⟩
section BR
variable {M : MD} {d pc pc1 len : Nat} {l l1 : Lc} {st st1 : List AV} {h h' : AH} {o : AO} {Q : AO → AH → Prop}
/-- a step with a choice -/
theorem ex_if {c : Prop} [Decidable c] {pt pf : Nat} {lt lf : Lc} {stt stf : List AV} (kt : c → Ex M d pt lt stt h Q) (kf : ¬ c → Ex M d pf lf stf h Q)
    (f : ∀ o h', (c → Rch M d pt lt stt h o h') → (¬ c → Rch M d pf lf stf h o h') → Rch M d pc l st h o h') : Ex M d pc l st h Q := by
  by_cases hc : c
  · exact ex_of (kt hc) fun o h' r => f o h' (fun _ => r) (fun n => absurd hc n)
  · exact ex_of (kf hc) fun o h' r => f o h' (fun y => absurd y hc) (fun _ => r)
theorem e_icmpeq {a b : Int} {off : Int} (tgt : Nat) (hT : mT M pc = some (.if_icmp .eq off, 3)) (ht : (pc : Int) + off = (tgt : Int)) (ha : I32 a) (hb : I32 b) (kt : a = b → Ex M d tgt l st h Q) (kf : ¬ a = b → Ex M d (pc + 3) l st h Q) : Ex M d pc l (J b :: J a :: st) h Q := by
  refine ex_if kt kf fun o h' rt rf => ?_
  intro D b0 la p e R s m args below meth c s0 C h1 h2 h3 h4 H locs ls hR hlo hA hl
  exact lv_icmp_eq C.1 rfl (C.2.1 _ _ hT) ht (fun c9 => rt ((ofInt32_inj ha hb).mp c9) D b0 la p e R s m args below meth c s0 C h1 h2 h3 h4 H locs ls hR hlo hA hl) (fun c9 => rf (fun z9 => c9 ((ofInt32_inj ha hb).mpr z9)) D b0 la p e R s m args below meth c s0 C h1 h2 h3 h4 H locs ls hR hlo hA hl)
theorem e_ifeq {a : Int} {off : Int} (tgt : Nat) (hT : mT M pc = some (.ifCond .eq off, 3)) (ht : (pc : Int) + off = (tgt : Int)) (ha : I32 a) (kt : a = 0 → Ex M d tgt l st h Q) (kf : ¬ a = 0 → Ex M d (pc + 3) l st h Q) : Ex M d pc l (J a :: st) h Q := by
  refine ex_if kt kf fun o h' rt rf => ?_
  intro D b0 la p e R s m args below meth c s0 C h1 h2 h3 h4 H locs ls hR hlo hA hl
  exact lv_if_eq C.1 rfl (C.2.1 _ _ hT) ht (fun c9 => rt ((ofInt32_inj ha iz32).mp c9) D b0 la p e R s m args below meth c s0 C h1 h2 h3 h4 H locs ls hR hlo hA hl) (fun c9 => rf (fun z9 => c9 ((ofInt32_inj ha iz32).mpr z9)) D b0 la p e R s m args below meth c s0 C h1 h2 h3 h4 H locs ls hR hlo hA hl)
theorem e_lcmpeq {a b : Int} {off : Int} (tgt : Nat) (hT0 : mT M pc = some (.lcmp, 1)) (hT : mT M (pc + 1) = some (.ifCond .eq off, 3)) (ht : ((pc + 1 : Nat) : Int) + off = (tgt : Int)) (ha : I64 a) (hb : I64 b) (kt : a = b → Ex M d tgt l st h Q) (kf : ¬ a = b → Ex M d (pc + 1 + 3) l st h Q) : Ex M d pc l (G b :: G a :: st) h Q := by
  refine ex_if kt kf fun o h' rt rf => ?_
  intro D b0 la p e R s m args below meth c s0 C h1 h2 h3 h4 H locs ls hR hlo hA hl
  exact W.lcmp C.1 rfl (C.2.1 _ _ hT0) (lv_if_eq C.1 rfl (C.2.1 _ _ hT) ht (fun c9 => rt ((ofInt64_inj ha hb).mp ((lg_cmp_eq _ _).mp c9)) D b0 la p e R s m args below meth c s0 C h1 h2 h3 h4 H locs ls hR hlo hA hl) (fun c9 => rf (fun z9 => c9 ((lg_cmp_eq _ _).mpr ((ofInt64_inj ha hb).mpr z9))) D b0 la p e R s m args below meth c s0 C h1 h2 h3 h4 H locs ls hR hlo hA hl))
theorem e_icmpne {a b : Int} {off : Int} (tgt : Nat) (hT : mT M pc = some (.if_icmp .ne off, 3)) (ht : (pc : Int) + off = (tgt : Int)) (ha : I32 a) (hb : I32 b) (kt : ¬ a = b → Ex M d tgt l st h Q) (kf : a = b → Ex M d (pc + 3) l st h Q) : Ex M d pc l (J b :: J a :: st) h Q := by
  refine ex_if (c := a = b) kf kt fun o h' rt rf => ?_
  intro D b0 la p e R s m args below meth c s0 C h1 h2 h3 h4 H locs ls hR hlo hA hl
  exact lv_icmp_ne C.1 rfl (C.2.1 _ _ hT) ht (fun c9 => rf (fun z9 => c9 ((ofInt32_inj ha hb).mpr z9)) D b0 la p e R s m args below meth c s0 C h1 h2 h3 h4 H locs ls hR hlo hA hl) (fun c9 => rt ((ofInt32_inj ha hb).mp c9) D b0 la p e R s m args below meth c s0 C h1 h2 h3 h4 H locs ls hR hlo hA hl)
theorem e_ifne {a : Int} {off : Int} (tgt : Nat) (hT : mT M pc = some (.ifCond .ne off, 3)) (ht : (pc : Int) + off = (tgt : Int)) (ha : I32 a) (kt : ¬ a = 0 → Ex M d tgt l st h Q) (kf : a = 0 → Ex M d (pc + 3) l st h Q) : Ex M d pc l (J a :: st) h Q := by
  refine ex_if (c := a = 0) kf kt fun o h' rt rf => ?_
  intro D b0 la p e R s m args below meth c s0 C h1 h2 h3 h4 H locs ls hR hlo hA hl
  exact lv_if_ne C.1 rfl (C.2.1 _ _ hT) ht (fun c9 => rf (fun z9 => c9 ((ofInt32_inj ha iz32).mpr z9)) D b0 la p e R s m args below meth c s0 C h1 h2 h3 h4 H locs ls hR hlo hA hl) (fun c9 => rt ((ofInt32_inj ha iz32).mp c9) D b0 la p e R s m args below meth c s0 C h1 h2 h3 h4 H locs ls hR hlo hA hl)
theorem e_lcmpne {a b : Int} {off : Int} (tgt : Nat) (hT0 : mT M pc = some (.lcmp, 1)) (hT : mT M (pc + 1) = some (.ifCond .ne off, 3)) (ht : ((pc + 1 : Nat) : Int) + off = (tgt : Int)) (ha : I64 a) (hb : I64 b) (kt : ¬ a = b → Ex M d tgt l st h Q) (kf : a = b → Ex M d (pc + 1 + 3) l st h Q) : Ex M d pc l (G b :: G a :: st) h Q := by
  refine ex_if (c := a = b) kf kt fun o h' rt rf => ?_
  intro D b0 la p e R s m args below meth c s0 C h1 h2 h3 h4 H locs ls hR hlo hA hl
  exact W.lcmp C.1 rfl (C.2.1 _ _ hT0) (lv_if_ne C.1 rfl (C.2.1 _ _ hT) ht (fun c9 => rf (fun z9 => c9 ((lg_cmp_eq _ _).mpr ((ofInt64_inj ha hb).mpr z9))) D b0 la p e R s m args below meth c s0 C h1 h2 h3 h4 H locs ls hR hlo hA hl) (fun c9 => rt ((ofInt64_inj ha hb).mp ((lg_cmp_eq _ _).mp c9)) D b0 la p e R s m args below meth c s0 C h1 h2 h3 h4 H locs ls hR hlo hA hl))
theorem e_icmplt {a b : Int} {off : Int} (tgt : Nat) (hT : mT M pc = some (.if_icmp .lt off, 3)) (ht : (pc : Int) + off = (tgt : Int)) (ha : I32 a) (hb : I32 b) (kt : a < b → Ex M d tgt l st h Q) (kf : ¬ a < b → Ex M d (pc + 3) l st h Q) : Ex M d pc l (J b :: J a :: st) h Q := by
  refine ex_if kt kf fun o h' rt rf => ?_
  intro D b0 la p e R s m args below meth c s0 C h1 h2 h3 h4 H locs ls hR hlo hA hl
  exact lv_icmp_lt C.1 rfl (C.2.1 _ _ hT) ht (fun c9 => rt ((ofInt32_lt ha hb).mp c9) D b0 la p e R s m args below meth c s0 C h1 h2 h3 h4 H locs ls hR hlo hA hl) (fun c9 => rf (fun z9 => c9 ((ofInt32_lt ha hb).mpr z9)) D b0 la p e R s m args below meth c s0 C h1 h2 h3 h4 H locs ls hR hlo hA hl)
theorem e_iflt {a : Int} {off : Int} (tgt : Nat) (hT : mT M pc = some (.ifCond .lt off, 3)) (ht : (pc : Int) + off = (tgt : Int)) (ha : I32 a) (kt : a < 0 → Ex M d tgt l st h Q) (kf : ¬ a < 0 → Ex M d (pc + 3) l st h Q) : Ex M d pc l (J a :: st) h Q := by
  refine ex_if kt kf fun o h' rt rf => ?_
  intro D b0 la p e R s m args below meth c s0 C h1 h2 h3 h4 H locs ls hR hlo hA hl
  exact lv_if_lt C.1 rfl (C.2.1 _ _ hT) ht (fun c9 => rt ((ofInt32_lt ha iz32).mp c9) D b0 la p e R s m args below meth c s0 C h1 h2 h3 h4 H locs ls hR hlo hA hl) (fun c9 => rf (fun z9 => c9 ((ofInt32_lt ha iz32).mpr z9)) D b0 la p e R s m args below meth c s0 C h1 h2 h3 h4 H locs ls hR hlo hA hl)
theorem e_lcmplt {a b : Int} {off : Int} (tgt : Nat) (hT0 : mT M pc = some (.lcmp, 1)) (hT : mT M (pc + 1) = some (.ifCond .lt off, 3)) (ht : ((pc + 1 : Nat) : Int) + off = (tgt : Int)) (ha : I64 a) (hb : I64 b) (kt : a < b → Ex M d tgt l st h Q) (kf : ¬ a < b → Ex M d (pc + 1 + 3) l st h Q) : Ex M d pc l (G b :: G a :: st) h Q := by
  refine ex_if kt kf fun o h' rt rf => ?_
  intro D b0 la p e R s m args below meth c s0 C h1 h2 h3 h4 H locs ls hR hlo hA hl
  exact W.lcmp C.1 rfl (C.2.1 _ _ hT0) (lv_if_lt C.1 rfl (C.2.1 _ _ hT) ht (fun c9 => rt ((ofInt64_lt ha hb).mp ((lg_cmp_lt _ _).mp c9)) D b0 la p e R s m args below meth c s0 C h1 h2 h3 h4 H locs ls hR hlo hA hl) (fun c9 => rf (fun z9 => c9 ((lg_cmp_lt _ _).mpr ((ofInt64_lt ha hb).mpr z9))) D b0 la p e R s m args below meth c s0 C h1 h2 h3 h4 H locs ls hR hlo hA hl))
theorem e_icmpge {a b : Int} {off : Int} (tgt : Nat) (hT : mT M pc = some (.if_icmp .ge off, 3)) (ht : (pc : Int) + off = (tgt : Int)) (ha : I32 a) (hb : I32 b) (kt : b ≤ a → Ex M d tgt l st h Q) (kf : ¬ b ≤ a → Ex M d (pc + 3) l st h Q) : Ex M d pc l (J b :: J a :: st) h Q := by
  refine ex_if kt kf fun o h' rt rf => ?_
  intro D b0 la p e R s m args below meth c s0 C h1 h2 h3 h4 H locs ls hR hlo hA hl
  exact lv_icmp_ge C.1 rfl (C.2.1 _ _ hT) ht (fun c9 => rt ((ofInt32_le hb ha).mp c9) D b0 la p e R s m args below meth c s0 C h1 h2 h3 h4 H locs ls hR hlo hA hl) (fun c9 => rf (fun z9 => c9 ((ofInt32_le hb ha).mpr z9)) D b0 la p e R s m args below meth c s0 C h1 h2 h3 h4 H locs ls hR hlo hA hl)
theorem e_ifge {a : Int} {off : Int} (tgt : Nat) (hT : mT M pc = some (.ifCond .ge off, 3)) (ht : (pc : Int) + off = (tgt : Int)) (ha : I32 a) (kt : 0 ≤ a → Ex M d tgt l st h Q) (kf : ¬ 0 ≤ a → Ex M d (pc + 3) l st h Q) : Ex M d pc l (J a :: st) h Q := by
  refine ex_if kt kf fun o h' rt rf => ?_
  intro D b0 la p e R s m args below meth c s0 C h1 h2 h3 h4 H locs ls hR hlo hA hl
  exact lv_if_ge C.1 rfl (C.2.1 _ _ hT) ht (fun c9 => rt ((ofInt32_le iz32 ha).mp c9) D b0 la p e R s m args below meth c s0 C h1 h2 h3 h4 H locs ls hR hlo hA hl) (fun c9 => rf (fun z9 => c9 ((ofInt32_le iz32 ha).mpr z9)) D b0 la p e R s m args below meth c s0 C h1 h2 h3 h4 H locs ls hR hlo hA hl)
theorem e_lcmpge {a b : Int} {off : Int} (tgt : Nat) (hT0 : mT M pc = some (.lcmp, 1)) (hT : mT M (pc + 1) = some (.ifCond .ge off, 3)) (ht : ((pc + 1 : Nat) : Int) + off = (tgt : Int)) (ha : I64 a) (hb : I64 b) (kt : b ≤ a → Ex M d tgt l st h Q) (kf : ¬ b ≤ a → Ex M d (pc + 1 + 3) l st h Q) : Ex M d pc l (G b :: G a :: st) h Q := by
  refine ex_if kt kf fun o h' rt rf => ?_
  intro D b0 la p e R s m args below meth c s0 C h1 h2 h3 h4 H locs ls hR hlo hA hl
  exact W.lcmp C.1 rfl (C.2.1 _ _ hT0) (lv_if_ge C.1 rfl (C.2.1 _ _ hT) ht (fun c9 => rt ((ofInt64_le hb ha).mp ((lg_cmp_ge _ _).mp c9)) D b0 la p e R s m args below meth c s0 C h1 h2 h3 h4 H locs ls hR hlo hA hl) (fun c9 => rf (fun z9 => c9 ((lg_cmp_ge _ _).mpr ((ofInt64_le hb ha).mpr z9))) D b0 la p e R s m args below meth c s0 C h1 h2 h3 h4 H locs ls hR hlo hA hl))
theorem e_icmpgt {a b : Int} {off : Int} (tgt : Nat) (hT : mT M pc = some (.if_icmp .gt off, 3)) (ht : (pc : Int) + off = (tgt : Int)) (ha : I32 a) (hb : I32 b) (kt : b < a → Ex M d tgt l st h Q) (kf : ¬ b < a → Ex M d (pc + 3) l st h Q) : Ex M d pc l (J b :: J a :: st) h Q := by
  refine ex_if kt kf fun o h' rt rf => ?_
  intro D b0 la p e R s m args below meth c s0 C h1 h2 h3 h4 H locs ls hR hlo hA hl
  exact lv_icmp_gt C.1 rfl (C.2.1 _ _ hT) ht (fun c9 => rt ((ofInt32_lt hb ha).mp c9) D b0 la p e R s m args below meth c s0 C h1 h2 h3 h4 H locs ls hR hlo hA hl) (fun c9 => rf (fun z9 => c9 ((ofInt32_lt hb ha).mpr z9)) D b0 la p e R s m args below meth c s0 C h1 h2 h3 h4 H locs ls hR hlo hA hl)
theorem e_ifgt {a : Int} {off : Int} (tgt : Nat) (hT : mT M pc = some (.ifCond .gt off, 3)) (ht : (pc : Int) + off = (tgt : Int)) (ha : I32 a) (kt : 0 < a → Ex M d tgt l st h Q) (kf : ¬ 0 < a → Ex M d (pc + 3) l st h Q) : Ex M d pc l (J a :: st) h Q := by
  refine ex_if kt kf fun o h' rt rf => ?_
  intro D b0 la p e R s m args below meth c s0 C h1 h2 h3 h4 H locs ls hR hlo hA hl
  exact lv_if_gt C.1 rfl (C.2.1 _ _ hT) ht (fun c9 => rt ((ofInt32_lt iz32 ha).mp c9) D b0 la p e R s m args below meth c s0 C h1 h2 h3 h4 H locs ls hR hlo hA hl) (fun c9 => rf (fun z9 => c9 ((ofInt32_lt iz32 ha).mpr z9)) D b0 la p e R s m args below meth c s0 C h1 h2 h3 h4 H locs ls hR hlo hA hl)
theorem e_lcmpgt {a b : Int} {off : Int} (tgt : Nat) (hT0 : mT M pc = some (.lcmp, 1)) (hT : mT M (pc + 1) = some (.ifCond .gt off, 3)) (ht : ((pc + 1 : Nat) : Int) + off = (tgt : Int)) (ha : I64 a) (hb : I64 b) (kt : b < a → Ex M d tgt l st h Q) (kf : ¬ b < a → Ex M d (pc + 1 + 3) l st h Q) : Ex M d pc l (G b :: G a :: st) h Q := by
  refine ex_if kt kf fun o h' rt rf => ?_
  intro D b0 la p e R s m args below meth c s0 C h1 h2 h3 h4 H locs ls hR hlo hA hl
  exact W.lcmp C.1 rfl (C.2.1 _ _ hT0) (lv_if_gt C.1 rfl (C.2.1 _ _ hT) ht (fun c9 => rt ((ofInt64_lt hb ha).mp ((lg_cmp_gt _ _).mp c9)) D b0 la p e R s m args below meth c s0 C h1 h2 h3 h4 H locs ls hR hlo hA hl) (fun c9 => rf (fun z9 => c9 ((lg_cmp_gt _ _).mpr ((ofInt64_lt hb ha).mpr z9))) D b0 la p e R s m args below meth c s0 C h1 h2 h3 h4 H locs ls hR hlo hA hl))
theorem e_icmple {a b : Int} {off : Int} (tgt : Nat) (hT : mT M pc = some (.if_icmp .le off, 3)) (ht : (pc : Int) + off = (tgt : Int)) (ha : I32 a) (hb : I32 b) (kt : a ≤ b → Ex M d tgt l st h Q) (kf : ¬ a ≤ b → Ex M d (pc + 3) l st h Q) : Ex M d pc l (J b :: J a :: st) h Q := by
  refine ex_if kt kf fun o h' rt rf => ?_
  intro D b0 la p e R s m args below meth c s0 C h1 h2 h3 h4 H locs ls hR hlo hA hl
  exact lv_icmp_le C.1 rfl (C.2.1 _ _ hT) ht (fun c9 => rt ((ofInt32_le ha hb).mp c9) D b0 la p e R s m args below meth c s0 C h1 h2 h3 h4 H locs ls hR hlo hA hl) (fun c9 => rf (fun z9 => c9 ((ofInt32_le ha hb).mpr z9)) D b0 la p e R s m args below meth c s0 C h1 h2 h3 h4 H locs ls hR hlo hA hl)
theorem e_ifle {a : Int} {off : Int} (tgt : Nat) (hT : mT M pc = some (.ifCond .le off, 3)) (ht : (pc : Int) + off = (tgt : Int)) (ha : I32 a) (kt : a ≤ 0 → Ex M d tgt l st h Q) (kf : ¬ a ≤ 0 → Ex M d (pc + 3) l st h Q) : Ex M d pc l (J a :: st) h Q := by
  refine ex_if kt kf fun o h' rt rf => ?_
  intro D b0 la p e R s m args below meth c s0 C h1 h2 h3 h4 H locs ls hR hlo hA hl
  exact lv_if_le C.1 rfl (C.2.1 _ _ hT) ht (fun c9 => rt ((ofInt32_le ha iz32).mp c9) D b0 la p e R s m args below meth c s0 C h1 h2 h3 h4 H locs ls hR hlo hA hl) (fun c9 => rf (fun z9 => c9 ((ofInt32_le ha iz32).mpr z9)) D b0 la p e R s m args below meth c s0 C h1 h2 h3 h4 H locs ls hR hlo hA hl)
theorem e_lcmple {a b : Int} {off : Int} (tgt : Nat) (hT0 : mT M pc = some (.lcmp, 1)) (hT : mT M (pc + 1) = some (.ifCond .le off, 3)) (ht : ((pc + 1 : Nat) : Int) + off = (tgt : Int)) (ha : I64 a) (hb : I64 b) (kt : a ≤ b → Ex M d tgt l st h Q) (kf : ¬ a ≤ b → Ex M d (pc + 1 + 3) l st h Q) : Ex M d pc l (G b :: G a :: st) h Q := by
  refine ex_if kt kf fun o h' rt rf => ?_
  intro D b0 la p e R s m args below meth c s0 C h1 h2 h3 h4 H locs ls hR hlo hA hl
  exact W.lcmp C.1 rfl (C.2.1 _ _ hT0) (lv_if_le C.1 rfl (C.2.1 _ _ hT) ht (fun c9 => rt ((ofInt64_le ha hb).mp ((lg_cmp_le _ _).mp c9)) D b0 la p e R s m args below meth c s0 C h1 h2 h3 h4 H locs ls hR hlo hA hl) (fun c9 => rf (fun z9 => c9 ((lg_cmp_le _ _).mpr ((ofInt64_le ha hb).mpr z9))) D b0 la p e R s m args below meth c s0 C h1 h2 h3 h4 H locs ls hR hlo hA hl))
theorem e_ifnull {r : Option Nat} {off : Int} (tgt : Nat) (hT : mT M pc = some (.ifnull off, 3)) (ht : (pc : Int) + off = (tgt : Int)) (kt : r = none → Ex M d tgt l st h Q) (kf : ∀ a, r = some a → Ex M d (pc + 3) l st h Q) : Ex M d pc l (Ro r :: st) h Q := by
  cases r with
  | none =>
    refine ex_of (kt rfl) fun o h' r => ?_
    intro D b0 la p e R s m args below meth c s0 C h1 h2 h3 h4 H locs ls hR hlo hA hl
    exact lv_ifnullN C.1 rfl (C.2.1 _ _ hT) ht (r D b0 la p e R s m args below meth c s0 C h1 h2 h3 h4 H locs ls hR hlo hA hl)
  | some a =>
    refine ex_of (kf a rfl) fun o h' r => ?_
    intro D b0 la p e R s m args below meth c s0 C h1 h2 h3 h4 H locs ls hR hlo hA hl
    exact lv_ifnull C.1 rfl (C.2.1 _ _ hT) (r D b0 la p e R s m args below meth c s0 C h1 h2 h3 h4 H locs ls hR hlo hA hl)
theorem e_ifnonnull {r : Option Nat} {off : Int} (tgt : Nat) (hT : mT M pc = some (.ifnonnull off, 3)) (ht : (pc : Int) + off = (tgt : Int)) (kt : ∀ a, r = some a → Ex M d tgt l st h Q) (kf : r = none → Ex M d (pc + 3) l st h Q) : Ex M d pc l (Ro r :: st) h Q := by
  cases r with
  | none =>
    refine ex_of (kf rfl) fun o h' r => ?_
    intro D b0 la p e R s m args below meth c s0 C h1 h2 h3 h4 H locs ls hR hlo hA hl
    exact lv_ifnonnullN C.1 rfl (C.2.1 _ _ hT) (r D b0 la p e R s m args below meth c s0 C h1 h2 h3 h4 H locs ls hR hlo hA hl)
  | some a =>
    refine ex_of (kt a rfl) fun o h' r => ?_
    intro D b0 la p e R s m args below meth c s0 C h1 h2 h3 h4 H locs ls hR hlo hA hl
    exact lv_ifnonnull C.1 rfl (C.2.1 _ _ hT) ht (r D b0 la p e R s m args below meth c s0 C h1 h2 h3 h4 H locs ls hR hlo hA hl)
theorem e_acmpeq {r1 r2 : Option Nat} {off : Int} (tgt : Nat) (hT : mT M pc = some (.if_acmp .eq off, 3)) (ht : (pc : Int) + off = (tgt : Int)) (kt : r1 = r2 → Ex M d tgt l st h Q) (kf : ¬ r1 = r2 → Ex M d (pc + 3) l st h Q) : Ex M d pc l (Ro r2 :: Ro r1 :: st) h Q := by
  refine ex_if kt kf fun o h' rt rf => ?_
  intro D b0 la p e R s m args below meth c s0 C h1 h2 h3 h4 H locs ls hR hlo hA hl
  exact lv_acmp_eq C.1 rfl (C.2.1 _ _ hT) ht (fun c9 => rt c9 D b0 la p e R s m args below meth c s0 C h1 h2 h3 h4 H locs ls hR hlo hA hl) (fun c9 => rf c9 D b0 la p e R s m args below meth c s0 C h1 h2 h3 h4 H locs ls hR hlo hA hl)
theorem e_acmpne {r1 r2 : Option Nat} {off : Int} (tgt : Nat) (hT : mT M pc = some (.if_acmp .ne off, 3)) (ht : (pc : Int) + off = (tgt : Int)) (kt : ¬ r1 = r2 → Ex M d tgt l st h Q) (kf : r1 = r2 → Ex M d (pc + 3) l st h Q) : Ex M d pc l (Ro r2 :: Ro r1 :: st) h Q := by
  refine ex_if (c := r1 = r2) kf kt fun o h' rt rf => ?_
  intro D b0 la p e R s m args below meth c s0 C h1 h2 h3 h4 H locs ls hR hlo hA hl
  exact lv_acmp_ne C.1 rfl (C.2.1 _ _ hT) ht (fun c9 => rf c9 D b0 la p e R s m args below meth c s0 C h1 h2 h3 h4 H locs ls hR hlo hA hl) (fun c9 => rt c9 D b0 la p e R s m args below meth c s0 C h1 h2 h3 h4 H locs ls hR hlo hA hl)
theorem e_iand_raw {a b : Int} (hT : mT M pc = some (.iand, 1))  (k : Ex M d (pc + 1) l (J ((Int32.ofInt a &&& Int32.ofInt b).toInt) :: st) h Q) : Ex M d pc l (J b :: J a :: st) h Q := by
  refine ex_of k fun o h' r => ?_
  intro D b0 la p e R s m args below meth c s0 C h1 h2 h3 h4 H locs ls hR hlo hA hl
  refine lv_iand C.1 rfl (C.2.1 _ _ hT) ?_
  have r1 := r D b0 la p e R s m args below meth c s0 C h1 h2 h3 h4 H locs ls hR hlo hA hl
  rw [List.map_cons, show cv (J ((Int32.ofInt a &&& Int32.ofInt b).toInt)) = Value.int (Int32.ofInt a &&& Int32.ofInt b) from congrArg _ (Int32.ofInt_toInt _)] at r1
  exact r1
theorem e_ior_raw {a b : Int} (hT : mT M pc = some (.ior, 1))  (k : Ex M d (pc + 1) l (J ((Int32.ofInt a ||| Int32.ofInt b).toInt) :: st) h Q) : Ex M d pc l (J b :: J a :: st) h Q := by
  refine ex_of k fun o h' r => ?_
  intro D b0 la p e R s m args below meth c s0 C h1 h2 h3 h4 H locs ls hR hlo hA hl
  refine lv_ior C.1 rfl (C.2.1 _ _ hT) ?_
  have r1 := r D b0 la p e R s m args below meth c s0 C h1 h2 h3 h4 H locs ls hR hlo hA hl
  rw [List.map_cons, show cv (J ((Int32.ofInt a ||| Int32.ofInt b).toInt)) = Value.int (Int32.ofInt a ||| Int32.ofInt b) from congrArg _ (Int32.ofInt_toInt _)] at r1
  exact r1
theorem e_ixor_raw {a b : Int} (hT : mT M pc = some (.ixor, 1))  (k : Ex M d (pc + 1) l (J ((Int32.ofInt a ^^^ Int32.ofInt b).toInt) :: st) h Q) : Ex M d pc l (J b :: J a :: st) h Q := by
  refine ex_of k fun o h' r => ?_
  intro D b0 la p e R s m args below meth c s0 C h1 h2 h3 h4 H locs ls hR hlo hA hl
  refine lv_ixor C.1 rfl (C.2.1 _ _ hT) ?_
  have r1 := r D b0 la p e R s m args below meth c s0 C h1 h2 h3 h4 H locs ls hR hlo hA hl
  rw [List.map_cons, show cv (J ((Int32.ofInt a ^^^ Int32.ofInt b).toInt)) = Value.int (Int32.ofInt a ^^^ Int32.ofInt b) from congrArg _ (Int32.ofInt_toInt _)] at r1
  exact r1
theorem e_land_raw {a b : Int} (hT : mT M pc = some (.land, 1))  (k : Ex M d (pc + 1) l (G ((Int64.ofInt a &&& Int64.ofInt b).toInt) :: st) h Q) : Ex M d pc l (G b :: G a :: st) h Q := by
  refine ex_of k fun o h' r => ?_
  intro D b0 la p e R s m args below meth c s0 C h1 h2 h3 h4 H locs ls hR hlo hA hl
  refine lv_land C.1 rfl (C.2.1 _ _ hT) ?_
  have r1 := r D b0 la p e R s m args below meth c s0 C h1 h2 h3 h4 H locs ls hR hlo hA hl
  rw [List.map_cons, show cv (G ((Int64.ofInt a &&& Int64.ofInt b).toInt)) = Value.long (Int64.ofInt a &&& Int64.ofInt b) from congrArg _ (Int64.ofInt_toInt _)] at r1
  exact r1
theorem e_lor_raw {a b : Int} (hT : mT M pc = some (.lor, 1))  (k : Ex M d (pc + 1) l (G ((Int64.ofInt a ||| Int64.ofInt b).toInt) :: st) h Q) : Ex M d pc l (G b :: G a :: st) h Q := by
  refine ex_of k fun o h' r => ?_
  intro D b0 la p e R s m args below meth c s0 C h1 h2 h3 h4 H locs ls hR hlo hA hl
  refine lv_lor C.1 rfl (C.2.1 _ _ hT) ?_
  have r1 := r D b0 la p e R s m args below meth c s0 C h1 h2 h3 h4 H locs ls hR hlo hA hl
  rw [List.map_cons, show cv (G ((Int64.ofInt a ||| Int64.ofInt b).toInt)) = Value.long (Int64.ofInt a ||| Int64.ofInt b) from congrArg _ (Int64.ofInt_toInt _)] at r1
  exact r1
theorem e_lxor_raw {a b : Int} (hT : mT M pc = some (.lxor, 1))  (k : Ex M d (pc + 1) l (G ((Int64.ofInt a ^^^ Int64.ofInt b).toInt) :: st) h Q) : Ex M d pc l (G b :: G a :: st) h Q := by
  refine ex_of k fun o h' r => ?_
  intro D b0 la p e R s m args below meth c s0 C h1 h2 h3 h4 H locs ls hR hlo hA hl
  refine lv_lxor C.1 rfl (C.2.1 _ _ hT) ?_
  have r1 := r D b0 la p e R s m args below meth c s0 C h1 h2 h3 h4 H locs ls hR hlo hA hl
  rw [List.map_cons, show cv (G ((Int64.ofInt a ^^^ Int64.ofInt b).toInt)) = Value.long (Int64.ofInt a ^^^ Int64.ofInt b) from congrArg _ (Int64.ofInt_toInt _)] at r1
  exact r1
theorem e_ishl_raw {a b : Int} (hT : mT M pc = some (.ishl, 1))  (k : Ex M d (pc + 1) l (J ((Int32.ofInt a <<< (Int32.ofInt b &&& 31)).toInt) :: st) h Q) : Ex M d pc l (J b :: J a :: st) h Q := by
  refine ex_of k fun o h' r => ?_
  intro D b0 la p e R s m args below meth c s0 C h1 h2 h3 h4 H locs ls hR hlo hA hl
  refine lv_ishl C.1 rfl (C.2.1 _ _ hT) ?_
  have r1 := r D b0 la p e R s m args below meth c s0 C h1 h2 h3 h4 H locs ls hR hlo hA hl
  rw [List.map_cons, show cv (J ((Int32.ofInt a <<< (Int32.ofInt b &&& 31)).toInt)) = Value.int (Int32.ofInt a <<< (Int32.ofInt b &&& 31)) from congrArg _ (Int32.ofInt_toInt _)] at r1
  exact r1
theorem e_ishr_raw {a b : Int} (hT : mT M pc = some (.ishr, 1))  (k : Ex M d (pc + 1) l (J ((Int32.ofInt a >>> (Int32.ofInt b &&& 31)).toInt) :: st) h Q) : Ex M d pc l (J b :: J a :: st) h Q := by
  refine ex_of k fun o h' r => ?_
  intro D b0 la p e R s m args below meth c s0 C h1 h2 h3 h4 H locs ls hR hlo hA hl
  refine lv_ishr C.1 rfl (C.2.1 _ _ hT) ?_
  have r1 := r D b0 la p e R s m args below meth c s0 C h1 h2 h3 h4 H locs ls hR hlo hA hl
  rw [List.map_cons, show cv (J ((Int32.ofInt a >>> (Int32.ofInt b &&& 31)).toInt)) = Value.int (Int32.ofInt a >>> (Int32.ofInt b &&& 31)) from congrArg _ (Int32.ofInt_toInt _)] at r1
  exact r1
theorem e_iushr_raw {a b : Int} (hT : mT M pc = some (.iushr, 1))  (k : Ex M d (pc + 1) l (J ((((Int32.ofInt a).toUInt32 >>> ((Int32.ofInt b).toUInt32 &&& Int32.toUInt32 31)).toInt32).toInt) :: st) h Q) : Ex M d pc l (J b :: J a :: st) h Q := by
  refine ex_of k fun o h' r => ?_
  intro D b0 la p e R s m args below meth c s0 C h1 h2 h3 h4 H locs ls hR hlo hA hl
  refine lv_iushr C.1 rfl (C.2.1 _ _ hT) rfl ?_
  have r1 := r D b0 la p e R s m args below meth c s0 C h1 h2 h3 h4 H locs ls hR hlo hA hl
  rw [List.map_cons, show cv (J ((((Int32.ofInt a).toUInt32 >>> ((Int32.ofInt b).toUInt32 &&& Int32.toUInt32 31)).toInt32).toInt)) = Value.int (((Int32.ofInt a).toUInt32 >>> ((Int32.ofInt b).toUInt32 &&& Int32.toUInt32 31)).toInt32) from congrArg _ (Int32.ofInt_toInt _)] at r1
  exact r1
theorem e_lshl_raw {a b : Int} (hT : mT M pc = some (.lshl, 1))  (k : Ex M d (pc + 1) l (G ((Int64.ofInt a <<< ((Int32.ofInt b).toInt64 &&& 63)).toInt) :: st) h Q) : Ex M d pc l (J b :: G a :: st) h Q := by
  refine ex_of k fun o h' r => ?_
  intro D b0 la p e R s m args below meth c s0 C h1 h2 h3 h4 H locs ls hR hlo hA hl
  refine lv_lshl C.1 rfl (C.2.1 _ _ hT) rfl ?_
  have r1 := r D b0 la p e R s m args below meth c s0 C h1 h2 h3 h4 H locs ls hR hlo hA hl
  rw [List.map_cons, show cv (G ((Int64.ofInt a <<< ((Int32.ofInt b).toInt64 &&& 63)).toInt)) = Value.long (Int64.ofInt a <<< ((Int32.ofInt b).toInt64 &&& 63)) from congrArg _ (Int64.ofInt_toInt _)] at r1
  exact r1
theorem e_lshr_raw {a b : Int} (hT : mT M pc = some (.lshr, 1))  (k : Ex M d (pc + 1) l (G ((Int64.ofInt a >>> ((Int32.ofInt b).toInt64 &&& 63)).toInt) :: st) h Q) : Ex M d pc l (J b :: G a :: st) h Q := by
  refine ex_of k fun o h' r => ?_
  intro D b0 la p e R s m args below meth c s0 C h1 h2 h3 h4 H locs ls hR hlo hA hl
  refine lv_lshr C.1 rfl (C.2.1 _ _ hT) rfl ?_
  have r1 := r D b0 la p e R s m args below meth c s0 C h1 h2 h3 h4 H locs ls hR hlo hA hl
  rw [List.map_cons, show cv (G ((Int64.ofInt a >>> ((Int32.ofInt b).toInt64 &&& 63)).toInt)) = Value.long (Int64.ofInt a >>> ((Int32.ofInt b).toInt64 &&& 63)) from congrArg _ (Int64.ofInt_toInt _)] at r1
  exact r1
theorem e_lushr_raw {a b : Int} (hT : mT M pc = some (.lushr, 1))  (k : Ex M d (pc + 1) l (G ((((Int64.ofInt a).toUInt64 >>> ((Int32.ofInt b).toInt64.toUInt64 &&& Int64.toUInt64 63)).toInt64).toInt) :: st) h Q) : Ex M d pc l (J b :: G a :: st) h Q := by
  refine ex_of k fun o h' r => ?_
  intro D b0 la p e R s m args below meth c s0 C h1 h2 h3 h4 H locs ls hR hlo hA hl
  refine lv_lushr C.1 rfl (C.2.1 _ _ hT) rfl ?_
  have r1 := r D b0 la p e R s m args below meth c s0 C h1 h2 h3 h4 H locs ls hR hlo hA hl
  rw [List.map_cons, show cv (G ((((Int64.ofInt a).toUInt64 >>> ((Int32.ofInt b).toInt64.toUInt64 &&& Int64.toUInt64 63)).toInt64).toInt)) = Value.long (((Int64.ofInt a).toUInt64 >>> ((Int32.ofInt b).toInt64.toUInt64 &&& Int64.toUInt64 63)).toInt64) from congrArg _ (Int64.ofInt_toInt _)] at r1
  exact r1
theorem e_idiv_raw {a b : Int} (hT : mT M pc = some (.idiv, 1)) (hb : I32 b) (hz : b ≠ 0) (k : Ex M d (pc + 1) l (J ((Int32.ofInt a / Int32.ofInt b).toInt) :: st) h Q) : Ex M d pc l (J b :: J a :: st) h Q := by
  refine ex_of k fun o h' r => ?_
  intro D b0 la p e R s m args below meth c s0 C h1 h2 h3 h4 H locs ls hR hlo hA hl
  refine lv_idiv C.1 rfl (C.2.1 _ _ hT) (fun q9 => hz ((ofInt32_inj hb iz32).mp q9)) ?_
  have r1 := r D b0 la p e R s m args below meth c s0 C h1 h2 h3 h4 H locs ls hR hlo hA hl
  rw [List.map_cons, show cv (J ((Int32.ofInt a / Int32.ofInt b).toInt)) = Value.int (Int32.ofInt a / Int32.ofInt b) from congrArg _ (Int32.ofInt_toInt _)] at r1
  exact r1
theorem e_irem_raw {a b : Int} (hT : mT M pc = some (.irem, 1)) (hb : I32 b) (hz : b ≠ 0) (k : Ex M d (pc + 1) l (J ((Int32.ofInt a - Int32.ofInt a / Int32.ofInt b * Int32.ofInt b).toInt) :: st) h Q) : Ex M d pc l (J b :: J a :: st) h Q := by
  refine ex_of k fun o h' r => ?_
  intro D b0 la p e R s m args below meth c s0 C h1 h2 h3 h4 H locs ls hR hlo hA hl
  refine lv_irem C.1 rfl (C.2.1 _ _ hT) (fun q9 => hz ((ofInt32_inj hb iz32).mp q9)) ?_
  have r1 := r D b0 la p e R s m args below meth c s0 C h1 h2 h3 h4 H locs ls hR hlo hA hl
  rw [List.map_cons, show cv (J ((Int32.ofInt a - Int32.ofInt a / Int32.ofInt b * Int32.ofInt b).toInt)) = Value.int (Int32.ofInt a - Int32.ofInt a / Int32.ofInt b * Int32.ofInt b) from congrArg _ (Int32.ofInt_toInt _)] at r1
  exact r1
theorem e_ldiv_raw {a b : Int} (hT : mT M pc = some (.ldiv, 1)) (hb : I64 b) (hz : b ≠ 0) (k : Ex M d (pc + 1) l (G ((Int64.ofInt a / Int64.ofInt b).toInt) :: st) h Q) : Ex M d pc l (G b :: G a :: st) h Q := by
  refine ex_of k fun o h' r => ?_
  intro D b0 la p e R s m args below meth c s0 C h1 h2 h3 h4 H locs ls hR hlo hA hl
  refine lv_ldiv C.1 rfl (C.2.1 _ _ hT) (fun q9 => hz ((ofInt64_inj hb ⟨by omega, by omega⟩).mp q9)) ?_
  have r1 := r D b0 la p e R s m args below meth c s0 C h1 h2 h3 h4 H locs ls hR hlo hA hl
  rw [List.map_cons, show cv (G ((Int64.ofInt a / Int64.ofInt b).toInt)) = Value.long (Int64.ofInt a / Int64.ofInt b) from congrArg _ (Int64.ofInt_toInt _)] at r1
  exact r1
theorem e_lrem_raw {a b : Int} (hT : mT M pc = some (.lrem, 1)) (hb : I64 b) (hz : b ≠ 0) (k : Ex M d (pc + 1) l (G ((Int64.ofInt a - Int64.ofInt a / Int64.ofInt b * Int64.ofInt b).toInt) :: st) h Q) : Ex M d pc l (G b :: G a :: st) h Q := by
  refine ex_of k fun o h' r => ?_
  intro D b0 la p e R s m args below meth c s0 C h1 h2 h3 h4 H locs ls hR hlo hA hl
  refine lv_lrem C.1 rfl (C.2.1 _ _ hT) (fun q9 => hz ((ofInt64_inj hb ⟨by omega, by omega⟩).mp q9)) ?_
  have r1 := r D b0 la p e R s m args below meth c s0 C h1 h2 h3 h4 H locs ls hR hlo hA hl
  rw [List.map_cons, show cv (G ((Int64.ofInt a - Int64.ofInt a / Int64.ofInt b * Int64.ofInt b).toInt)) = Value.long (Int64.ofInt a - Int64.ofInt a / Int64.ofInt b * Int64.ofInt b) from congrArg _ (Int64.ofInt_toInt _)] at r1
  exact r1
theorem e_i2l {a : Int} (hT : mT M pc = some (.i2l, 1)) (ha : I32 a) (k : Ex M d (pc + 1) l (G a :: st) h Q) : Ex M d pc l (J a :: st) h Q := by
  refine ex_of k fun o h' r => ?_
  intro D b0 la p e R s m args below meth c s0 C h1 h2 h3 h4 H locs ls hR hlo hA hl
  refine lv_i2l C.1 rfl (C.2.1 _ _ hT) ?_ (r D b0 la p e R s m args below meth c s0 C h1 h2 h3 h4 H locs ls hR hlo hA hl)
  apply Int64.toInt_inj.mp
  rw [Int32.toInt_toInt64, toInt_ofInt32 ha, toInt_ofInt64 ⟨by omega, by omega⟩]
theorem e_l2i {a : Int} (hT : mT M pc = some (.l2i, 1)) (ha : I32 a) (k : Ex M d (pc + 1) l (J a :: st) h Q) : Ex M d pc l (G a :: st) h Q := by
  refine ex_of k fun o h' r => ?_
  intro D b0 la p e R s m args below meth c s0 C h1 h2 h3 h4 H locs ls hR hlo hA hl
  refine lv_l2i C.1 rfl (C.2.1 _ _ hT) ?_ (r D b0 la p e R s m args below meth c s0 C h1 h2 h3 h4 H locs ls hR hlo hA hl)
  apply Int32.toInt_inj.mp
  rw [Int64.toInt_toInt32, toInt_ofInt64 ⟨by omega, by omega⟩, toInt_ofInt32 ha, Int.bmod_def]
  omega
theorem e_i2b {a : Int} (hT : mT M pc = some (.i2b, 1)) (hh1 : -128 ≤ a) (hh2 : a ≤ 127) (k : Ex M d (pc + 1) l (J a :: st) h Q) : Ex M d pc l (J a :: st) h Q := by
  refine ex_of k fun o h' r => ?_
  intro D b0 la p e R s m args below meth c s0 C h1 h2 h3 h4 H locs ls hR hlo hA hl
  refine lv_i2b C.1 rfl (C.2.1 _ _ hT) ?_ (r D b0 la p e R s m args below meth c s0 C h1 h2 h3 h4 H locs ls hR hlo hA hl)
  apply Int32.toInt_inj.mp
  rw [Int8.toInt_toInt32, Int32.toInt_toInt8, toInt_ofInt32 ⟨by omega, by omega⟩, Int.bmod_def]
  omega
theorem e_i2c {a : Int} (hT : mT M pc = some (.i2c, 1)) (hh1 : 0 ≤ a) (hh2 : a < 65536) (k : Ex M d (pc + 1) l (J a :: st) h Q) : Ex M d pc l (J a :: st) h Q := by
  refine ex_of k fun o h' r => ?_
  intro D b0 la p e R s m args below meth c s0 C h1 h2 h3 h4 H locs ls hR hlo hA hl
  refine lv_i2c C.1 rfl (C.2.1 _ _ hT) ?_ (r D b0 la p e R s m args below meth c s0 C h1 h2 h3 h4 H locs ls hR hlo hA hl)
  obtain ⟨n, rfl⟩ : ∃ n : Nat, a = n := ⟨a.toNat, by omega⟩
  rw [show Int32.ofInt (n : Int) = nI n from (Int32.ofInt_eq_ofNat ..), pk_char]
  rw [pk_tn (by omega), Nat.mod_eq_of_lt (by omega)]
theorem e_ldc {idx : Nat} {v : Int32} (n : Int) (q : Cond.constant (mY M).cls idx v ∈ lw_all) (hv : Int32.ofInt n = v) (hT : mT M pc = some (.ldc idx, 2)) (k : Ex M d (pc + 2) l (J n :: st) h Q) : Ex M d pc l st h Q := by
  refine ex_of k fun o h' r => ?_
  intro D b0 la p e R s m args below meth c s0 C h1 h2 h3 h4 H locs ls hR hlo hA hl
  have r1 := r D b0 la p e R s m args below meth c s0 C h1 h2 h3 h4 H locs ls hR hlo hA hl
  rw [List.map_cons, show cv (J n) = Value.int v from congrArg _ hv] at r1
  exact lv_ldc C.1 rfl C.2.2.2.2.2.1 (C.2.2.2.2.2.2.1 _ q) (C.2.1 _ _ hT) r1
theorem e_ldcw {idx : Nat} {v : Int32} (n : Int) (q : Cond.constant (mY M).cls idx v ∈ lw_all) (hv : Int32.ofInt n = v) (hT : mT M pc = some (.ldc_w idx, 3)) (k : Ex M d (pc + 3) l (J n :: st) h Q) : Ex M d pc l st h Q := by
  refine ex_of k fun o h' r => ?_
  intro D b0 la p e R s m args below meth c s0 C h1 h2 h3 h4 H locs ls hR hlo hA hl
  have r1 := r D b0 la p e R s m args below meth c s0 C h1 h2 h3 h4 H locs ls hR hlo hA hl
  rw [List.map_cons, show cv (J n) = Value.int v from congrArg _ hv] at r1
  exact lv_ldcw C.1 rfl C.2.2.2.2.2.1 (C.2.2.2.2.2.2.1 _ q) (C.2.1 _ _ hT) r1
theorem e_ldc2 {idx : Nat} {v : Int64} (n : Int) (q : Cond.constantLong (mY M).cls idx v ∈ lw_all) (hv : Int64.ofInt n = v) (hT : mT M pc = some (.ldc2_w idx, 3)) (k : Ex M d (pc + 3) l (G n :: st) h Q) : Ex M d pc l st h Q := by
  refine ex_of k fun o h' r => ?_
  intro D b0 la p e R s m args below meth c s0 C h1 h2 h3 h4 H locs ls hR hlo hA hl
  have r1 := r D b0 la p e R s m args below meth c s0 C h1 h2 h3 h4 H locs ls hR hlo hA hl
  rw [List.map_cons, show cv (G n) = Value.long v from congrArg _ hv] at r1
  exact lv_ldc2 C.1 rfl C.2.2.2.2.2.1 (C.2.2.2.2.2.2.1 _ q) (C.2.1 _ _ hT) r1
theorem e_tableIn {dflt lo hi : Int} {offs : Array Int} {a off : Int} (tgt : Nat) (hT : mT M pc = some (.tableswitch dflt lo hi offs, len)) (ha : I32 a) (hh1 : lo ≤ a) (hh2 : a ≤ hi) (ho : offs[(a - lo).toNat]? = some off) (ht : (pc : Int) + off = (tgt : Int)) (k : Ex M d tgt l st h Q) : Ex M d pc l (J a :: st) h Q := by
  refine ex_of k fun o h' r => ?_
  intro D b0 la p e R s m args below meth c s0 C h1 h2 h3 h4 H locs ls hR hlo hA hl
  have e9 := toInt_ofInt32 ha
  exact lv_tableIn C.1 rfl (C.2.1 _ _ hT) (by omega) (by omega) (by rw [e9]; exact ho) ht (r D b0 la p e R s m args below meth c s0 C h1 h2 h3 h4 H locs ls hR hlo hA hl)
theorem e_tableOut {dflt lo hi : Int} {offs : Array Int} {a : Int} (tgt : Nat) (hT : mT M pc = some (.tableswitch dflt lo hi offs, len)) (ha : I32 a) (hh1 : a < lo ∨ hi < a) (ht : (pc : Int) + dflt = (tgt : Int)) (k : Ex M d tgt l st h Q) : Ex M d pc l (J a :: st) h Q := by
  refine ex_of k fun o h' r => ?_
  intro D b0 la p e R s m args below meth c s0 C h1 h2 h3 h4 H locs ls hR hlo hA hl
  have e9 := toInt_ofInt32 ha
  exact lv_tableOut C.1 rfl (C.2.1 _ _ hT) (by omega) ht (r D b0 la p e R s m args below meth c s0 C h1 h2 h3 h4 H locs ls hR hlo hA hl)
theorem e_lookup {dflt : Int} {ps : Array (Int × Int)} {a off : Int} (tgt : Nat) (hT : mT M pc = some (.lookupswitch dflt ps, len)) (ha : I32 a) (hp : (ps.toList.zip (ps.toList.drop 1)).all (fun (a, next) => a.1 < next.1) = true) (ho : Op.lookupswitch.offset ps.toList dflt a = off) (ht : (pc : Int) + off = (tgt : Int)) (k : Ex M d tgt l st h Q) : Ex M d pc l (J a :: st) h Q := by
  refine ex_of k fun o h' r => ?_
  intro D b0 la p e R s m args below meth c s0 C h1 h2 h3 h4 H locs ls hR hlo hA hl
  have e9 := toInt_ofInt32 ha
  exact lv_lookup C.1 rfl (C.2.1 _ _ hT) hp (by rw [e9]; exact ho) ht (r D b0 la p e R s m args below meth c s0 C h1 h2 h3 h4 H locs ls hR hlo hA hl)
end BR
