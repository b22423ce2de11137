/-! THE J LAYER: ints by their integers (zI), a frame's locals as a list by place, the machine's walk over a predicate of the heap -/
set_option maxRecDepth 100000
/-- an Int32 by its integer -/
def zI (z : Int) : Int32 := Int32.ofInt z
theorem zI_def (z : Int) : Int32.ofInt z = zI z := rfl
theorem zI_add (a b : Int) : zI a + zI b = zI (a + b) := (Int32.ofInt_add a b).symm
theorem zI_sub (a b : Int) : zI a - zI b = zI (a - b) := (Int32.ofInt_sub a b).symm
theorem zI_mul (a b : Int) : zI a * zI b = zI (a * b) := (Int32.ofInt_mul a b).symm
theorem zI_neg (a : Int) : -zI a = zI (-a) := (Int32.ofInt_neg a).symm
/-- within an Int32's range -/
def zR (a : Int) : Prop := -2147483648 ≤ a ∧ a < 2147483648
theorem zR_mk {a : Int} (h1 : -2147483648 ≤ a) (h2 : a < 2147483648) : zR a := ⟨h1, h2⟩
theorem zI_toInt {a : Int} (h : zR a) : (zI a).toInt = a := Int32.toInt_ofInt_of_le (by have := h.1; omega) (by have := h.2; omega)
theorem zI_of (x : Int32) : x = zI x.toInt := (Int32.ofInt_toInt x).symm
theorem zI_ex (x : Int32) : ∃ a : Int, zR a ∧ x = zI a := ⟨x.toInt, ⟨by have := Int32.le_toInt x; omega, by have := Int32.toInt_lt x; omega⟩, zI_of x⟩
theorem zI_le {a b : Int} (ha : zR a) (hb : zR b) : zI a ≤ zI b ↔ a ≤ b := by rw [Int32.le_iff_toInt_le, zI_toInt ha, zI_toInt hb]
theorem zI_lt {a b : Int} (ha : zR a) (hb : zR b) : zI a < zI b ↔ a < b := by rw [Int32.lt_iff_toInt_lt, zI_toInt ha, zI_toInt hb]
theorem zI_eq {a b : Int} (ha : zR a) (hb : zR b) : zI a = zI b ↔ a = b := by rw [← Int32.toInt_inj, zI_toInt ha, zI_toInt hb]
theorem zI_0 : (0 : Int32) = zI 0 := rfl
theorem zI_1 : (1 : Int32) = zI 1 := rfl
theorem zI_nat (n : Nat) : Int32.ofNat n = zI (n : Int) := (Int32.ofInt_eq_ofNat).symm
theorem zI_clamp {a : Int} (h : zR a) : (zI a).toNatClampNeg = a.toNat := Int32.toNatClampNeg_ofInt_of_le (by have := h.1; omega) (by have := h.2; omega)
theorem zI_in {a : Int} {n : Nat} (h0 : 0 ≤ a) (h1 : a < n) (hn : n < 2147483648) : vp_in (zI a) n := by
  have hr : zR a := ⟨by omega, by omega⟩
  rw [vp_in_iff, zI_toInt hr]
  exact ⟨h0, h1⟩
theorem zI_div {a b : Int} (ha : zR a) (hb : zR b) (h0 : 0 ≤ a) (h1 : 0 < b) : zI a / zI b = zI (a / b) := by
  obtain ⟨n, rfl⟩ := Int.eq_ofNat_of_zero_le h0
  obtain ⟨k, rfl⟩ := Int.eq_ofNat_of_zero_le (Int.le_of_lt h1)
  have e1 : zI (n : Int) = nI n := (zI_nat n).symm
  have e2 : zI (k : Int) = nI k := (zI_nat k).symm
  have e3 : zI ((n : Int) / (k : Int)) = nI (n / k) := by rw [← Int.natCast_ediv]; exact (zI_nat _).symm
  rw [e1, e2, e3]
  have := ha.2
  have := hb.2
  exact pk_div (by omega) (by omega) (by omega)
theorem zI_rem {a b : Int} (ha : zR a) (hb : zR b) (h0 : 0 ≤ a) (h1 : 0 < b) : zI a - zI a / zI b * zI b = zI (a % b) := by
  rw [zI_div ha hb h0 h1, zI_mul, zI_sub]
  congr 1
  have := Int.emod_add_mul_ediv a b
  rw [Int.mul_comm] at this
  omega
theorem zI_ne0 {b : Int} (hb : zR b) (h1 : 0 < b) : ¬ zI b = 0 := by
  rw [zI_0, zI_eq hb ⟨by omega, by omega⟩]
  omega
theorem zI_wrap (a : Int) : ∃ b : Int, zR b ∧ zI a = zI b := ⟨(zI a).toInt, ⟨by have := Int32.le_toInt (zI a); omega, by have := Int32.toInt_lt (zI a); omega⟩, zI_of _⟩
/-- a truth value as an int -/
def bI (P : Prop) [Decidable P] : Int := if P then 1 else 0
theorem bI_t {P : Prop} [Decidable P] (h : P) : bI P = 1 := if_pos h
theorem bI_f {P : Prop} [Decidable P] (h : ¬ P) : bI P = 0 := if_neg h
theorem bI_r {P : Prop} [Decidable P] : 0 ≤ bI P ∧ bI P ≤ 1 := by unfold bI; split <;> decide
/-! locals: by place; only values of one slot are listed -/
abbrev jLs : Type := List (Option Value)
def jl (ls : Array Slot) (L : jLs) : Prop := ls.size = L.length ∧ lv_wf ls ∧ ∀ (i : Nat) (v : Value), L[i]? = some (some v) → ls[i]? = some (.val v) ∧ v.category = 1
def jmk (n : Nat) (l : List (Nat × Value)) : jLs := (List.range n).map (fun i => (l.find? (fun q => q.1 == i)).map (fun q => q.2))
theorem jl_of {ls : Array Slot} {n : Nat} {l : List (Nat × Value)} (h : lv_has ls n l) (hc : l.all (fun q => q.2.category == 1) = true) : jl ls (jmk n l) := by
  refine ⟨by rw [h.1]; simp [jmk], h.2.1, fun i v hv => ?_⟩
  simp only [jmk, List.getElem?_map] at hv
  by_cases hi : i < n
  · rw [List.getElem?_range hi] at hv
    simp only [Option.map_some, Option.some.injEq, Option.map_eq_some_iff] at hv
    obtain ⟨q, hq, rfl⟩ := hv
    have h1 := List.find?_some hq
    have h2 := List.mem_of_find?_eq_some hq
    have h3 : q.1 = i := by simpa using h1
    have h4 := List.all_eq_true.mp hc q h2
    exact ⟨by rw [← h3]; exact h.2.2 q h2, by simpa using h4⟩
  · rw [List.getElem?_eq_none (by simpa using hi)] at hv
    cases hv
theorem jl_store {ls : Array Slot} {L : jLs} {i : Nat} {v : Value} (h : jl ls L) (hi : i < L.length) (hc : v.category = 1) : ∃ ls', storeLocals ls i v = some ls' ∧ jl ls' (L.set i (some v)) := by
  have hh : lv_has ls L.length [] := ⟨h.1, h.2.1, fun q hq => by cases hq⟩
  obtain ⟨ls', e, hs, hw, h0⟩ := lv_store1 hh hi hc
  refine ⟨ls', e, by rw [hs]; simp, hw, fun j w hj => ?_⟩
  by_cases hji : j = i
  · subst hji
    rw [List.getElem?_set_self hi] at hj
    have hv : w = v := by simpa using hj.symm
    subst hv
    exact ⟨h0 (j, w) List.mem_cons_self, hc⟩
  · rw [List.getElem?_set_ne (Ne.symm hji)] at hj
    obtain ⟨hv, hcw⟩ := h.2.2 j w hj
    have h3 : lv_has ls L.length [(j, w)] := ⟨h.1, h.2.1, fun q hq => by rw [List.mem_singleton.mp hq]; exact hv⟩
    obtain ⟨ls2, e2, h2⟩ := lv_store1 h3 hi hc
    rw [e] at e2
    cases e2
    refine ⟨h2.2.2 (j, w) (List.mem_cons_of_mem _ (List.mem_filter.mpr ⟨List.mem_singleton.mpr rfl, ?_⟩)), hcw⟩
    simp [hji, hcw]
/-- forget: fewer listed values -/
theorem jl_weak {ls : Array Slot} {L L' : jLs} (h : jl ls L) (hn : L'.length = L.length) (hs : ∀ (i : Nat) (v : Value), L'[i]? = some (some v) → L[i]? = some (some v)) : jl ls L' := ⟨by rw [hn]; exact h.1, h.2.1, fun i v hv => h.2.2 i v (hs i v hv)⟩
/-- the same, place by place: each place of the second list is as the first's, or forgotten -/
def jle : jLs → jLs → Prop
  | [], [] => True
  | a :: l, b :: k => (b = none ∨ b = a) ∧ jle l k
  | _, _ => False
theorem jle_spec : ∀ (L L' : jLs), jle L L' → L'.length = L.length ∧ ∀ (i : Nat) (v : Value), L'[i]? = some (some v) → L[i]? = some (some v)
  | [], [], _ => ⟨rfl, fun i v h => h⟩
  | a :: l, b :: k, h => by
    obtain ⟨h1, h2⟩ := h
    obtain ⟨h3, h4⟩ := jle_spec l k h2
    refine ⟨by simp [h3], fun i v hv => ?_⟩
    cases i with
    | zero =>
      simp only [List.getElem?_cons_zero, Option.some.injEq] at hv ⊢
      rcases h1 with h1 | h1
      · rw [h1] at hv; cases hv
      · rw [← h1]; exact hv
    | succ i =>
      simp only [List.getElem?_cons_succ] at hv ⊢
      exact h4 i v hv
  | [], _ :: _, h => absurd h id
  | _ :: _, [], h => absurd h id
/-! what a run knows of classes, arrays, statics -/
abbrev jcl : List vw_C := [(RX1, TX1, 6), (RX2, TX2, 6), (RX3, TX3, 21), (RX4, TX4, 5), (RX5, TX5, 5), (RX6, TX6, 3), (RJ2, TJ2, 3)]
/-- classes and slots; the array classes of int, boolean, long, Object; the empty array of ArrayList -/
abbrev jG : Type := va_G × (Nat → ClassId) × Nat
abbrev jty (d : Nat → ClassId) : List (ClassId × FieldType) := [(d 0, .int), (d 1, .boolean), (d 2, .long), (d 3, .object "java/lang/Object")]
def jshape : Cond → Bool
  | .fieldLinkNest .. => true
  | .methodLinkNest .. => true
  | .castable .. => true
  | .declares _ => true
  | _ => false
theorem jshape_on {w : Cond} (h : jshape w = true) : w.onTables = true := by
  cases w <;> first | rfl | (simp [jshape] at h)
theorem jshape_warm {w : Cond} (h : jshape w = true) {s U : State} (hW : s.WarmedH U.vm) (hZ : va_Nw w s) : va_Nw w U := by
  cases w <;> first | exact va_Nw.warmF hW hZ | exact va_Nw.warmM hW hZ | exact va_Nw.warmC hW hZ | exact va_Nw.warmD hW hZ | (simp [jshape] at h)
def jLsize : MethodName := ⟨"java/util/List", "size", "()I"⟩
def jLget : MethodName := ⟨"java/util/List", "get", "(I)Ljava/lang/Object;"⟩
def jLadd : MethodName := ⟨"java/util/List", "add", "(Ljava/lang/Object;)Z"⟩
def GG (g : jG) (A : Nat → Prop) (U : State) : Prop :=
  va_K g.1 jcl (jty g.2.1) U ∧ (∀ w ∈ lw_tbl, jshape w = true → va_Nw w U) ∧
  va_Fw RJ2 jLsize yJ2_size U ∧ va_Fw RJ2 jLget yJ2_get U ∧ va_Fw RJ2 jLadd yJ2_add U ∧ va_AO "java/lang/Object" U ∧
  vx_Zq Bundle.tN "UNASSIGNED_STACK" Bundle.steD A U U.heap ∧ vx_Zq Bundle.tN "SUPPRESSED_SENTINEL" Bundle.listD A U U.heap ∧
  va_Z "java/util/ArrayList" "DEFAULTCAPACITY_EMPTY_ELEMENTDATA" "[Ljava/lang/Object;" (.ref g.2.2) A U U.heap ∧ va_T (.object "java/lang/Object") g.2.2 0 (fun _ => .null) A U U.heap ∧ ∃ mi : Nat, va_Mi "[Ljava/lang/Object;" mi U
theorem GG_moved {g : jG} {A : Nat → Prop} {s U : State} (hW : s.WarmedH U.vm) (hq : ∀ a : Nat, a < s.heap.size → ¬ A a → U.heap[a]? = s.heap[a]?) (h : GG g A s) : GG g A U := by
  obtain ⟨h1, h2, h3, h4, h5, h6, h7, h8, h9, h10, mi, h11⟩ := h
  have hv := hW.alike
  refine ⟨h1.moved hv, fun w hw hs => jshape_warm hs hW (h2 w hw hs), h3.moved (by decide +kernel) hv, h4.moved (by decide +kernel) hv, h5.moved (by decide +kernel) hv, h6.moved hv, (h7.kept hq).moved hv, (h8.kept hq).moved hv, (h9.kept hq).moved hv, (h10.kept hq).moved hv, mi, h11.moved hv⟩
theorem GG_same {g : jG} {A : Nat → Prop} {s U : State} (hv : s.vm = U.vm) (hh : s.heap = U.heap) (h : GG g A s) : GG g A U :=
  GG_moved (by rw [← hv]; exact State.WarmedH.refl s) (fun a _ _ => by rw [hh]) h
theorem GG_nw {g : jG} {A : Nat → Prop} {U : State} (h : GG g A U) {w : Cond} (hw : w ∈ lw_tbl) (hs : jshape w = true) : va_Nw w U := h.2.1 w hw hs
/-! the judgement -/
def J (p : Program) (l : Launch) (e : Env) (R : Room) (s : State) (m : MethodId) (args : Array Value) (below : List Frame) (meth : Method) (c : Code) (A : Nat → Prop) (Q : State → Prop) (Φ : Heap → Prop) (cells slots pc : Nat) (L : jLs) (st : List Value) : Prop :=
  ∀ (H : Heap) (locs : List Loc) (ls : Array Slot), Φ H → va_S A s.heap H locs → jl ls L → W p l e R s m args below meth c H locs cells slots Q (F0 m pc ls st)
/-- what holds all through a method's body -/
def jC (g : jG) (p : Program) (l : Launch) (s : State) (m : MethodId) (args : Array Value) (meth : Method) (c : Code) (A : Nat → Prop) (cc : ByteArray) (own : String) (nL : Nat) (ret : Option FieldType) : Prop :=
  p.tables.exec = Jvm.exec ∧ c.code = cc ∧ c.maxLocals = nL ∧ s.vm.findClass own = some m.cls ∧ (∀ w ∈ lw_all, w.before args s = true) ∧ meth.sig.returnType = ret ∧ meth.locks = false ∧ (∀ q : Nat, s.heap.size ≤ q → A q) ∧ GG g A s ∧ l.stackTraces = false
section JS
variable {g : jG} {p : Program} {l : Launch} {e : Env} {R : Room} {s : State} {m : MethodId} {args : Array Value} {below : List Frame} {meth : Method} {c : Code} {A : Nat → Prop} {Q : State → Prop} {Φ Φ1 : Heap → Prop} {cells slots pc : Nat} {L : jLs} {st : List Value} {cc : ByteArray} {own : String} {nL : Nat} {ret : Option FieldType}
theorem J_conseq (h : ∀ H, Φ H → Φ1 H) (k : J p l e R s m args below meth c A Q Φ1 cells slots pc L st) : J p l e R s m args below meth c A Q Φ cells slots pc L st := fun H locs ls hP hS hl => k H locs ls (h H hP) hS hl
theorem J_ex {α : Type} {P : α → Heap → Prop} (k : ∀ a : α, J p l e R s m args below meth c A Q (P a) cells slots pc L st) : J p l e R s m args below meth c A Q (fun H => ∃ a, P a H) cells slots pc L st := fun H locs ls hP hS hl => by
  obtain ⟨a, ha⟩ := hP
  exact k a H locs ls ha hS hl
theorem J_and {B : Prop} {P : Heap → Prop} (k : B → J p l e R s m args below meth c A Q P cells slots pc L st) : J p l e R s m args below meth c A Q (fun H => B ∧ P H) cells slots pc L st := fun H locs ls hP hS hl => k hP.1 H locs ls hP.2 hS hl
/-- what a heap of this kind must be, known beforehand -/
theorem J_pure {B : Prop} (hB : ∀ H, Φ H → B) (k : B → J p l e R s m args below meth c A Q Φ cells slots pc L st) : J p l e R s m args below meth c A Q Φ cells slots pc L st := fun H locs ls hP hS hl => k (hB H hP) H locs ls hP hS hl
theorem J_forget {L' : jLs} (h : jle L L') (k : J p l e R s m args below meth c A Q Φ cells slots pc L' st) : J p l e R s m args below meth c A Q Φ cells slots pc L st := fun H locs ls hP hS hl =>
  k H locs ls hP hS (jl_weak hl (jle_spec L L' h).1 (jle_spec L L' h).2)
theorem J_widen {k n : Nat} (h1 : cells ≤ k) (h2 : slots ≤ n) (kk : J p l e R s m args below meth c A Q Φ k n pc L st) : J p l e R s m args below meth c A Q Φ cells slots pc L st := fun H locs ls hP hS hl => W.widen h1 h2 (kk H locs ls hP hS hl)
/-- the same values, written otherwise -/
theorem J_to {L' : jLs} {st' : List Value} (hL : L = L') (hst : st = st') (k : J p l e R s m args below meth c A Q Φ cells slots pc L' st') : J p l e R s m args below meth c A Q Φ cells slots pc L st := by
  subst hL; subst hst; exact k
-- constants
theorem J_iconst (hC : jC g p l s m args meth c A cc own nL ret) {n : Int} (hdg : decode cc pc = .ok (.iconst n, 1)) (k : J p l e R s m args below meth c A Q Φ cells slots (pc + 1) L (.int (zI n) :: st)) : J p l e R s m args below meth c A Q Φ cells slots pc L st := fun H locs ls hP hS hl => lv_iconst hC.1 hC.2.1 hdg rfl (k H locs ls hP hS hl)
theorem J_bipush (hC : jC g p l s m args meth c A cc own nL ret) {n : Int} (hdg : decode cc pc = .ok (.bipush n, 2)) (hv : (Int8.ofInt n).toInt32 = zI n) (k : J p l e R s m args below meth c A Q Φ cells slots (pc + 2) L (.int (zI n) :: st)) : J p l e R s m args below meth c A Q Φ cells slots pc L st := fun H locs ls hP hS hl => lv_bipush hC.1 hC.2.1 hdg hv (k H locs ls hP hS hl)
theorem J_sipush (hC : jC g p l s m args meth c A cc own nL ret) {n : Int} (hdg : decode cc pc = .ok (.sipush n, 3)) (hv : (Int16.ofInt n).toInt32 = zI n) (k : J p l e R s m args below meth c A Q Φ cells slots (pc + 3) L (.int (zI n) :: st)) : J p l e R s m args below meth c A Q Φ cells slots pc L st := fun H locs ls hP hS hl => lv_sipush hC.1 hC.2.1 hdg hv (k H locs ls hP hS hl)
theorem J_ldc (hC : jC g p l s m args meth c A cc own nL ret) {index : Nat} {v : Int32} {n : Int} (hw : Cond.constant own index v ∈ lw_all) (hv : v = zI n) (hdg : decode cc pc = .ok (.ldc index, 2)) (k : J p l e R s m args below meth c A Q Φ cells slots (pc + 2) L (.int (zI n) :: st)) : J p l e R s m args below meth c A Q Φ cells slots pc L st := fun H locs ls hP hS hl => by
  subst hv
  exact lv_ldc hC.1 hC.2.1 hC.2.2.2.1 (hC.2.2.2.2.1 _ hw) hdg (k H locs ls hP hS hl)
-- locals
theorem J_iload_n (hC : jC g p l s m args meth c A cc own nL ret) {k : Fin 4} {x : Int32} (hdg : decode cc pc = .ok (.iload_n k, 1)) (hl : L[(k : Nat)]? = some (some (.int x))) (kk : J p l e R s m args below meth c A Q Φ cells slots (pc + 1) L (.int x :: st)) : J p l e R s m args below meth c A Q Φ cells slots pc L st := fun H locs ls hP hS h => lv_iload_n hC.1 hC.2.1 hdg rfl (h.2.2 _ _ hl).1 (kk H locs ls hP hS h)
theorem J_iload (hC : jC g p l s m args meth c A cc own nL ret) {i : Nat} {x : Int32} (hdg : decode cc pc = .ok (.iload i, 2)) (hl : L[i]? = some (some (.int x))) (kk : J p l e R s m args below meth c A Q Φ cells slots (pc + 2) L (.int x :: st)) : J p l e R s m args below meth c A Q Φ cells slots pc L st := fun H locs ls hP hS h => lv_iload hC.1 hC.2.1 hdg (h.2.2 _ _ hl).1 (kk H locs ls hP hS h)
theorem J_aload_n (hC : jC g p l s m args meth c A cc own nL ret) {k : Fin 4} {x : Nat} (hdg : decode cc pc = .ok (.aload_n k, 1)) (hl : L[(k : Nat)]? = some (some (.ref x))) (kk : J p l e R s m args below meth c A Q Φ cells slots (pc + 1) L (.ref x :: st)) : J p l e R s m args below meth c A Q Φ cells slots pc L st := fun H locs ls hP hS h => lv_aload_n hC.1 hC.2.1 hdg rfl (h.2.2 _ _ hl).1 (kk H locs ls hP hS h)
theorem J_aload (hC : jC g p l s m args meth c A cc own nL ret) {i : Nat} {x : Nat} (hdg : decode cc pc = .ok (.aload i, 2)) (hl : L[i]? = some (some (.ref x))) (kk : J p l e R s m args below meth c A Q Φ cells slots (pc + 2) L (.ref x :: st)) : J p l e R s m args below meth c A Q Φ cells slots pc L st := fun H locs ls hP hS h => lv_aload hC.1 hC.2.1 hdg (h.2.2 _ _ hl).1 (kk H locs ls hP hS h)
theorem J_istore_n (hC : jC g p l s m args meth c A cc own nL ret) {k : Fin 4} {i : Nat} {x : Int32} (hdg : decode cc pc = .ok (.istore_n k, 1)) (hi : (k : Nat) = i) (hn : i < L.length) (kk : J p l e R s m args below meth c A Q Φ cells slots (pc + 1) (L.set i (some (.int x))) st) : J p l e R s m args below meth c A Q Φ cells slots pc L (.int x :: st) := fun H locs ls hP hS h => by
  subst hi
  obtain ⟨ls', e', h'⟩ := jl_store (v := .int x) h hn rfl
  have hexec := hC.1
  have hb := hC.2.1
  intro T hT X
  obtain ⟨t, a, b⟩ := kk H locs ls' hP hS h' T hT X
  refine ⟨t, ?_, b⟩
  jvm_step X.here [X.here.top, ↓top_set X.here.top, hexec, hb, hdg, e']
  exact a
theorem J_istore (hC : jC g p l s m args meth c A cc own nL ret) {i : Nat} {x : Int32} (hdg : decode cc pc = .ok (.istore i, 2)) (hn : i < L.length) (kk : J p l e R s m args below meth c A Q Φ cells slots (pc + 2) (L.set i (some (.int x))) st) : J p l e R s m args below meth c A Q Φ cells slots pc L (.int x :: st) := fun H locs ls hP hS h => by
  obtain ⟨ls', e', h'⟩ := jl_store (v := .int x) h hn rfl
  have hexec := hC.1
  have hb := hC.2.1
  intro T hT X
  obtain ⟨t, a, b⟩ := kk H locs ls' hP hS h' T hT X
  refine ⟨t, ?_, b⟩
  jvm_step X.here [X.here.top, ↓top_set X.here.top, hexec, hb, hdg, e']
  exact a
theorem J_astore_n (hC : jC g p l s m args meth c A cc own nL ret) {k : Fin 4} {i : Nat} {x : Nat} (hdg : decode cc pc = .ok (.astore_n k, 1)) (hi : (k : Nat) = i) (hn : i < L.length) (kk : J p l e R s m args below meth c A Q Φ cells slots (pc + 1) (L.set i (some (.ref x))) st) : J p l e R s m args below meth c A Q Φ cells slots pc L (.ref x :: st) := fun H locs ls hP hS h => by
  subst hi
  obtain ⟨ls', e', h'⟩ := jl_store (v := .ref x) h hn rfl
  have hexec := hC.1
  have hb := hC.2.1
  intro T hT X
  obtain ⟨t, a, b⟩ := kk H locs ls' hP hS h' T hT X
  refine ⟨t, ?_, b⟩
  jvm_step X.here [X.here.top, ↓top_set X.here.top, hexec, hb, hdg, e', Value.isRef]
  exact a
theorem J_astore (hC : jC g p l s m args meth c A cc own nL ret) {i : Nat} {x : Nat} (hdg : decode cc pc = .ok (.astore i, 2)) (hn : i < L.length) (kk : J p l e R s m args below meth c A Q Φ cells slots (pc + 2) (L.set i (some (.ref x))) st) : J p l e R s m args below meth c A Q Φ cells slots pc L (.ref x :: st) := fun H locs ls hP hS h => by
  obtain ⟨ls', e', h'⟩ := jl_store (v := .ref x) h hn rfl
  have hexec := hC.1
  have hb := hC.2.1
  intro T hT X
  obtain ⟨t, a, b⟩ := kk H locs ls' hP hS h' T hT X
  refine ⟨t, ?_, b⟩
  jvm_step X.here [X.here.top, ↓top_set X.here.top, hexec, hb, hdg, e', Value.isRef]
  exact a
theorem J_iinc (hC : jC g p l s m args meth c A cc own nL ret) {i : Nat} {n a0 : Int} (hdg : decode cc pc = .ok (.iinc i n, 3)) (hl : L[i]? = some (some (.int (zI a0)))) (hn : i < L.length) (kk : J p l e R s m args below meth c A Q Φ cells slots (pc + 3) (L.set i (some (.int (zI (a0 + n))))) st) : J p l e R s m args below meth c A Q Φ cells slots pc L st := fun H locs ls hP hS h => by
  have hg := (h.2.2 _ _ hl).1
  obtain ⟨ls', e', h'⟩ := jl_store (v := .int (zI (a0 + n))) h hn rfl
  rw [← zI_add] at e'
  have e2 : storeLocals ls i (.int (zI a0 + Int32.ofInt n)) = some ls' := e'
  have hexec := hC.1
  have hb := hC.2.1
  intro T hT X
  obtain ⟨t, a, b⟩ := kk H locs ls' hP hS h' T hT X
  refine ⟨t, ?_, b⟩
  jvm_step X.here [X.here.top, ↓top_set X.here.top, hexec, hb, hdg, hg, e2]
  exact a
theorem J_iadd (hC : jC g p l s m args meth c A cc own nL ret) {a0 b0 : Int} (hdg : decode cc pc = .ok (.iadd, 1)) (k : J p l e R s m args below meth c A Q Φ cells slots (pc + 1) L (.int (zI (a0 + b0)) :: st)) : J p l e R s m args below meth c A Q Φ cells slots pc L (.int (zI b0) :: .int (zI a0) :: st) := fun H locs ls hP hS hl => by
  refine lv_iadd hC.1 hC.2.1 hdg ?_
  rw [zI_add]
  exact k H locs ls hP hS hl
theorem J_isub (hC : jC g p l s m args meth c A cc own nL ret) {a0 b0 : Int} (hdg : decode cc pc = .ok (.isub, 1)) (k : J p l e R s m args below meth c A Q Φ cells slots (pc + 1) L (.int (zI (a0 - b0)) :: st)) : J p l e R s m args below meth c A Q Φ cells slots pc L (.int (zI b0) :: .int (zI a0) :: st) := fun H locs ls hP hS hl => by
  refine lv_isub hC.1 hC.2.1 hdg ?_
  rw [zI_sub]
  exact k H locs ls hP hS hl
theorem J_imul (hC : jC g p l s m args meth c A cc own nL ret) {a0 b0 : Int} (hdg : decode cc pc = .ok (.imul, 1)) (k : J p l e R s m args below meth c A Q Φ cells slots (pc + 1) L (.int (zI (a0 * b0)) :: st)) : J p l e R s m args below meth c A Q Φ cells slots pc L (.int (zI b0) :: .int (zI a0) :: st) := fun H locs ls hP hS hl => by
  refine lv_imul hC.1 hC.2.1 hdg ?_
  rw [zI_mul]
  exact k H locs ls hP hS hl
theorem J_idiv (hC : jC g p l s m args meth c A cc own nL ret) {a0 b0 : Int} (hdg : decode cc pc = .ok (.idiv, 1)) (ha : zR a0) (hb : zR b0) (h0 : 0 ≤ a0) (h1 : 0 < b0) (k : J p l e R s m args below meth c A Q Φ cells slots (pc + 1) L (.int (zI (a0 / b0)) :: st)) : J p l e R s m args below meth c A Q Φ cells slots pc L (.int (zI b0) :: .int (zI a0) :: st) := fun H locs ls hP hS hl => by
  refine lv_idiv hC.1 hC.2.1 hdg (zI_ne0 hb h1) ?_
  rw [zI_div ha hb h0 h1]
  exact k H locs ls hP hS hl
theorem J_irem (hC : jC g p l s m args meth c A cc own nL ret) {a0 b0 : Int} (hdg : decode cc pc = .ok (.irem, 1)) (ha : zR a0) (hb : zR b0) (h0 : 0 ≤ a0) (h1 : 0 < b0) (k : J p l e R s m args below meth c A Q Φ cells slots (pc + 1) L (.int (zI (a0 % b0)) :: st)) : J p l e R s m args below meth c A Q Φ cells slots pc L (.int (zI b0) :: .int (zI a0) :: st) := fun H locs ls hP hS hl => by
  refine lv_irem hC.1 hC.2.1 hdg (zI_ne0 hb h1) ?_
  rw [zI_rem ha hb h0 h1]
  exact k H locs ls hP hS hl
theorem J_ineg (hC : jC g p l s m args meth c A cc own nL ret) {a0 : Int} (hdg : decode cc pc = .ok (.ineg, 1)) (k : J p l e R s m args below meth c A Q Φ cells slots (pc + 1) L (.int (zI (-a0)) :: st)) : J p l e R s m args below meth c A Q Φ cells slots pc L (.int (zI a0) :: st) := fun H locs ls hP hS hl => by
  refine lv_ineg hC.1 hC.2.1 hdg ?_
  rw [zI_neg]
  exact k H locs ls hP hS hl
theorem J_ior (hC : jC g p l s m args meth c A cc own nL ret) {a0 b0 c0 : Int} (hdg : decode cc pc = .ok (.ior, 1)) (hv : zI a0 ||| zI b0 = zI c0) (k : J p l e R s m args below meth c A Q Φ cells slots (pc + 1) L (.int (zI c0) :: st)) : J p l e R s m args below meth c A Q Φ cells slots pc L (.int (zI b0) :: .int (zI a0) :: st) := fun H locs ls hP hS hl => by
  refine lv_ior hC.1 hC.2.1 hdg ?_
  rw [hv]
  exact k H locs ls hP hS hl
theorem J_iand (hC : jC g p l s m args meth c A cc own nL ret) {a0 b0 c0 : Int} (hdg : decode cc pc = .ok (.iand, 1)) (hv : zI a0 &&& zI b0 = zI c0) (k : J p l e R s m args below meth c A Q Φ cells slots (pc + 1) L (.int (zI c0) :: st)) : J p l e R s m args below meth c A Q Φ cells slots pc L (.int (zI b0) :: .int (zI a0) :: st) := fun H locs ls hP hS hl => by
  refine lv_iand hC.1 hC.2.1 hdg ?_
  rw [hv]
  exact k H locs ls hP hS hl
theorem J_dup (hC : jC g p l s m args meth c A cc own nL ret) {v : Value} (hdg : decode cc pc = .ok (.dup, 1)) (hv : v.category = 1) (k : J p l e R s m args below meth c A Q Φ cells slots (pc + 1) L (v :: v :: st)) : J p l e R s m args below meth c A Q Φ cells slots pc L (v :: st) := fun H locs ls hP hS hl => lv_dup hC.1 hC.2.1 hdg hv (k H locs ls hP hS hl)
theorem J_pop (hC : jC g p l s m args meth c A cc own nL ret) {v : Value} (hdg : decode cc pc = .ok (.pop, 1)) (hv : v.category = 1) (k : J p l e R s m args below meth c A Q Φ cells slots (pc + 1) L st) : J p l e R s m args below meth c A Q Φ cells slots pc L (v :: st) := fun H locs ls hP hS hl => lv_pop hC.1 hC.2.1 hdg hv (k H locs ls hP hS hl)
theorem J_dup_x1 (hC : jC g p l s m args meth c A cc own nL ret) {v w : Value} (hdg : decode cc pc = .ok (.dup_x1, 1)) (hv : v.category = 1) (hw : w.category = 1) (k : J p l e R s m args below meth c A Q Φ cells slots (pc + 1) L (v :: w :: v :: st)) : J p l e R s m args below meth c A Q Φ cells slots pc L (v :: w :: st) := fun H locs ls hP hS hl => lv_dup_x1 hC.1 hC.2.1 hdg hv hw (k H locs ls hP hS hl)
theorem J_dup_x2 (hC : jC g p l s m args meth c A cc own nL ret) {v w u : Value} (hdg : decode cc pc = .ok (.dup_x2, 1)) (hv : v.category = 1) (hw : w.category = 1) (hu : u.category = 1) (k : J p l e R s m args below meth c A Q Φ cells slots (pc + 1) L (v :: w :: u :: v :: st)) : J p l e R s m args below meth c A Q Φ cells slots pc L (v :: w :: u :: st) := fun H locs ls hP hS hl => lv_dup_x2 hC.1 hC.2.1 hdg hv hw hu (k H locs ls hP hS hl)
theorem J_dup2 (hC : jC g p l s m args meth c A cc own nL ret) {v w : Value} (hdg : decode cc pc = .ok (.dup2, 1)) (hv : v.category = 1) (hw : w.category = 1) (k : J p l e R s m args below meth c A Q Φ cells slots (pc + 1) L (v :: w :: v :: w :: st)) : J p l e R s m args below meth c A Q Φ cells slots pc L (v :: w :: st) := fun H locs ls hP hS hl => lv_dup2_11 hC.1 hC.2.1 hdg hv hw (k H locs ls hP hS hl)
theorem J_goto (hC : jC g p l s m args meth c A cc own nL ret) {off : Int} {tgt : Nat} (hdg : decode cc pc = .ok (.goto off, 3)) (ht : (pc : Int) + off = (tgt : Int)) (k : J p l e R s m args below meth c A Q Φ cells slots tgt L st) : J p l e R s m args below meth c A Q Φ cells slots pc L st := fun H locs ls hP hS hl => lv_goto hC.1 hC.2.1 hdg ht (k H locs ls hP hS hl)
theorem J_i2l (hC : jC g p l s m args meth c A cc own nL ret) {x : Int32} (hdg : decode cc pc = .ok (.i2l, 1)) (k : J p l e R s m args below meth c A Q Φ cells slots (pc + 1) L (.long x.toInt64 :: st)) : J p l e R s m args below meth c A Q Φ cells slots pc L (.int x :: st) := fun H locs ls hP hS hl => lv_i2l hC.1 hC.2.1 hdg rfl (k H locs ls hP hS hl)
theorem J_icmp_eq (hC : jC g p l s m args meth c A cc own nL ret) {a0 b0 : Int} {off : Int} {tgt : Nat} (ha : zR a0) (hb : zR b0) (hdg : decode cc pc = .ok (.if_icmp .eq off, 3)) (ht : (pc : Int) + off = (tgt : Int)) (kt : a0 = b0 → J p l e R s m args below meth c A Q Φ cells slots tgt L st) (kf : ¬ (a0 = b0) → J p l e R s m args below meth c A Q Φ cells slots (pc + 3) L st) : J p l e R s m args below meth c A Q Φ cells slots pc L (.int (zI b0) :: .int (zI a0) :: st) := fun H locs ls hP hS hl =>
  lv_icmp_eq hC.1 hC.2.1 hdg ht (fun h => kt (by have q := zI_eq ha hb; first | exact q.mp h | (rw [← q]; exact h) | (rw [← zI_eq ha hb]; exact h)) H locs ls hP hS hl) (fun h => kf (by have q := zI_eq ha hb; first | exact fun z => h (q.mpr z) | (rw [← zI_eq ha hb]; exact h) | exact (zI_eq ha hb).mp (Classical.not_not.mp h)) H locs ls hP hS hl)
theorem J_icmp_ne (hC : jC g p l s m args meth c A cc own nL ret) {a0 b0 : Int} {off : Int} {tgt : Nat} (ha : zR a0) (hb : zR b0) (hdg : decode cc pc = .ok (.if_icmp .ne off, 3)) (ht : (pc : Int) + off = (tgt : Int)) (kt : ¬ a0 = b0 → J p l e R s m args below meth c A Q Φ cells slots tgt L st) (kf : a0 = b0 → J p l e R s m args below meth c A Q Φ cells slots (pc + 3) L st) : J p l e R s m args below meth c A Q Φ cells slots pc L (.int (zI b0) :: .int (zI a0) :: st) := fun H locs ls hP hS hl =>
  lv_icmp_ne hC.1 hC.2.1 hdg ht (fun h => kt (by have q := not_congr (zI_eq ha hb); first | exact q.mp h | (rw [← q]; exact h) | (rw [← zI_eq ha hb]; exact h)) H locs ls hP hS hl) (fun h => kf (by have q := not_congr (zI_eq ha hb); first | exact fun z => h (q.mpr z) | (rw [← zI_eq ha hb]; exact h) | exact (zI_eq ha hb).mp (Classical.not_not.mp h)) H locs ls hP hS hl)
theorem J_icmp_lt (hC : jC g p l s m args meth c A cc own nL ret) {a0 b0 : Int} {off : Int} {tgt : Nat} (ha : zR a0) (hb : zR b0) (hdg : decode cc pc = .ok (.if_icmp .lt off, 3)) (ht : (pc : Int) + off = (tgt : Int)) (kt : a0 < b0 → J p l e R s m args below meth c A Q Φ cells slots tgt L st) (kf : ¬ (a0 < b0) → J p l e R s m args below meth c A Q Φ cells slots (pc + 3) L st) : J p l e R s m args below meth c A Q Φ cells slots pc L (.int (zI b0) :: .int (zI a0) :: st) := fun H locs ls hP hS hl =>
  lv_icmp_lt hC.1 hC.2.1 hdg ht (fun h => kt (by have q := zI_lt ha hb; first | exact q.mp h | (rw [← q]; exact h) | (rw [← zI_eq ha hb]; exact h)) H locs ls hP hS hl) (fun h => kf (by have q := zI_lt ha hb; first | exact fun z => h (q.mpr z) | (rw [← zI_eq ha hb]; exact h) | exact (zI_eq ha hb).mp (Classical.not_not.mp h)) H locs ls hP hS hl)
theorem J_icmp_ge (hC : jC g p l s m args meth c A cc own nL ret) {a0 b0 : Int} {off : Int} {tgt : Nat} (ha : zR a0) (hb : zR b0) (hdg : decode cc pc = .ok (.if_icmp .ge off, 3)) (ht : (pc : Int) + off = (tgt : Int)) (kt : b0 ≤ a0 → J p l e R s m args below meth c A Q Φ cells slots tgt L st) (kf : ¬ (b0 ≤ a0) → J p l e R s m args below meth c A Q Φ cells slots (pc + 3) L st) : J p l e R s m args below meth c A Q Φ cells slots pc L (.int (zI b0) :: .int (zI a0) :: st) := fun H locs ls hP hS hl =>
  lv_icmp_ge hC.1 hC.2.1 hdg ht (fun h => kt (by have q := zI_le hb ha; first | exact q.mp h | (rw [← q]; exact h) | (rw [← zI_eq ha hb]; exact h)) H locs ls hP hS hl) (fun h => kf (by have q := zI_le hb ha; first | exact fun z => h (q.mpr z) | (rw [← zI_eq ha hb]; exact h) | exact (zI_eq ha hb).mp (Classical.not_not.mp h)) H locs ls hP hS hl)
theorem J_icmp_gt (hC : jC g p l s m args meth c A cc own nL ret) {a0 b0 : Int} {off : Int} {tgt : Nat} (ha : zR a0) (hb : zR b0) (hdg : decode cc pc = .ok (.if_icmp .gt off, 3)) (ht : (pc : Int) + off = (tgt : Int)) (kt : b0 < a0 → J p l e R s m args below meth c A Q Φ cells slots tgt L st) (kf : ¬ (b0 < a0) → J p l e R s m args below meth c A Q Φ cells slots (pc + 3) L st) : J p l e R s m args below meth c A Q Φ cells slots pc L (.int (zI b0) :: .int (zI a0) :: st) := fun H locs ls hP hS hl =>
  lv_icmp_gt hC.1 hC.2.1 hdg ht (fun h => kt (by have q := zI_lt hb ha; first | exact q.mp h | (rw [← q]; exact h) | (rw [← zI_eq ha hb]; exact h)) H locs ls hP hS hl) (fun h => kf (by have q := zI_lt hb ha; first | exact fun z => h (q.mpr z) | (rw [← zI_eq ha hb]; exact h) | exact (zI_eq ha hb).mp (Classical.not_not.mp h)) H locs ls hP hS hl)
theorem J_icmp_le (hC : jC g p l s m args meth c A cc own nL ret) {a0 b0 : Int} {off : Int} {tgt : Nat} (ha : zR a0) (hb : zR b0) (hdg : decode cc pc = .ok (.if_icmp .le off, 3)) (ht : (pc : Int) + off = (tgt : Int)) (kt : a0 ≤ b0 → J p l e R s m args below meth c A Q Φ cells slots tgt L st) (kf : ¬ (a0 ≤ b0) → J p l e R s m args below meth c A Q Φ cells slots (pc + 3) L st) : J p l e R s m args below meth c A Q Φ cells slots pc L (.int (zI b0) :: .int (zI a0) :: st) := fun H locs ls hP hS hl =>
  lv_icmp_le hC.1 hC.2.1 hdg ht (fun h => kt (by have q := zI_le ha hb; first | exact q.mp h | (rw [← q]; exact h) | (rw [← zI_eq ha hb]; exact h)) H locs ls hP hS hl) (fun h => kf (by have q := zI_le ha hb; first | exact fun z => h (q.mpr z) | (rw [← zI_eq ha hb]; exact h) | exact (zI_eq ha hb).mp (Classical.not_not.mp h)) H locs ls hP hS hl)
theorem J_if_eq (hC : jC g p l s m args meth c A cc own nL ret) {a0 : Int} {off : Int} {tgt : Nat} (ha : zR a0) (hdg : decode cc pc = .ok (.ifCond .eq off, 3)) (ht : (pc : Int) + off = (tgt : Int)) (kt : a0 = 0 → J p l e R s m args below meth c A Q Φ cells slots tgt L st) (kf : ¬ (a0 = 0) → J p l e R s m args below meth c A Q Φ cells slots (pc + 3) L st) : J p l e R s m args below meth c A Q Φ cells slots pc L (.int (zI a0) :: st) := fun H locs ls hP hS hl => by
  have hz : zR 0 := ⟨by decide, by decide⟩
  exact lv_if_eq hC.1 hC.2.1 hdg ht (fun h => kt (by rw [zI_0] at h; have q := zI_eq ha hz; first | exact q.mp h | (rw [← zI_eq ha hz]; exact h)) H locs ls hP hS hl) (fun h => kf (by rw [zI_0] at h; have q := zI_eq ha hz; first | exact fun z => h (q.mpr z) | (rw [← zI_eq ha hz]; exact h) | exact (zI_eq ha hz).mp (Classical.not_not.mp h)) H locs ls hP hS hl)
theorem J_if_ne (hC : jC g p l s m args meth c A cc own nL ret) {a0 : Int} {off : Int} {tgt : Nat} (ha : zR a0) (hdg : decode cc pc = .ok (.ifCond .ne off, 3)) (ht : (pc : Int) + off = (tgt : Int)) (kt : ¬ a0 = 0 → J p l e R s m args below meth c A Q Φ cells slots tgt L st) (kf : a0 = 0 → J p l e R s m args below meth c A Q Φ cells slots (pc + 3) L st) : J p l e R s m args below meth c A Q Φ cells slots pc L (.int (zI a0) :: st) := fun H locs ls hP hS hl => by
  have hz : zR 0 := ⟨by decide, by decide⟩
  exact lv_if_ne hC.1 hC.2.1 hdg ht (fun h => kt (by rw [zI_0] at h; have q := not_congr (zI_eq ha hz); first | exact q.mp h | (rw [← zI_eq ha hz]; exact h)) H locs ls hP hS hl) (fun h => kf (by rw [zI_0] at h; have q := not_congr (zI_eq ha hz); first | exact fun z => h (q.mpr z) | (rw [← zI_eq ha hz]; exact h) | exact (zI_eq ha hz).mp (Classical.not_not.mp h)) H locs ls hP hS hl)
theorem J_if_lt (hC : jC g p l s m args meth c A cc own nL ret) {a0 : Int} {off : Int} {tgt : Nat} (ha : zR a0) (hdg : decode cc pc = .ok (.ifCond .lt off, 3)) (ht : (pc : Int) + off = (tgt : Int)) (kt : a0 < 0 → J p l e R s m args below meth c A Q Φ cells slots tgt L st) (kf : ¬ (a0 < 0) → J p l e R s m args below meth c A Q Φ cells slots (pc + 3) L st) : J p l e R s m args below meth c A Q Φ cells slots pc L (.int (zI a0) :: st) := fun H locs ls hP hS hl => by
  have hz : zR 0 := ⟨by decide, by decide⟩
  exact lv_if_lt hC.1 hC.2.1 hdg ht (fun h => kt (by rw [zI_0] at h; have q := zI_lt ha hz; first | exact q.mp h | (rw [← zI_eq ha hz]; exact h)) H locs ls hP hS hl) (fun h => kf (by rw [zI_0] at h; have q := zI_lt ha hz; first | exact fun z => h (q.mpr z) | (rw [← zI_eq ha hz]; exact h) | exact (zI_eq ha hz).mp (Classical.not_not.mp h)) H locs ls hP hS hl)
theorem J_if_ge (hC : jC g p l s m args meth c A cc own nL ret) {a0 : Int} {off : Int} {tgt : Nat} (ha : zR a0) (hdg : decode cc pc = .ok (.ifCond .ge off, 3)) (ht : (pc : Int) + off = (tgt : Int)) (kt : 0 ≤ a0 → J p l e R s m args below meth c A Q Φ cells slots tgt L st) (kf : ¬ (0 ≤ a0) → J p l e R s m args below meth c A Q Φ cells slots (pc + 3) L st) : J p l e R s m args below meth c A Q Φ cells slots pc L (.int (zI a0) :: st) := fun H locs ls hP hS hl => by
  have hz : zR 0 := ⟨by decide, by decide⟩
  exact lv_if_ge hC.1 hC.2.1 hdg ht (fun h => kt (by rw [zI_0] at h; have q := zI_le hz ha; first | exact q.mp h | (rw [← zI_eq ha hz]; exact h)) H locs ls hP hS hl) (fun h => kf (by rw [zI_0] at h; have q := zI_le hz ha; first | exact fun z => h (q.mpr z) | (rw [← zI_eq ha hz]; exact h) | exact (zI_eq ha hz).mp (Classical.not_not.mp h)) H locs ls hP hS hl)
theorem J_if_gt (hC : jC g p l s m args meth c A cc own nL ret) {a0 : Int} {off : Int} {tgt : Nat} (ha : zR a0) (hdg : decode cc pc = .ok (.ifCond .gt off, 3)) (ht : (pc : Int) + off = (tgt : Int)) (kt : 0 < a0 → J p l e R s m args below meth c A Q Φ cells slots tgt L st) (kf : ¬ (0 < a0) → J p l e R s m args below meth c A Q Φ cells slots (pc + 3) L st) : J p l e R s m args below meth c A Q Φ cells slots pc L (.int (zI a0) :: st) := fun H locs ls hP hS hl => by
  have hz : zR 0 := ⟨by decide, by decide⟩
  exact lv_if_gt hC.1 hC.2.1 hdg ht (fun h => kt (by rw [zI_0] at h; have q := zI_lt hz ha; first | exact q.mp h | (rw [← zI_eq ha hz]; exact h)) H locs ls hP hS hl) (fun h => kf (by rw [zI_0] at h; have q := zI_lt hz ha; first | exact fun z => h (q.mpr z) | (rw [← zI_eq ha hz]; exact h) | exact (zI_eq ha hz).mp (Classical.not_not.mp h)) H locs ls hP hS hl)
theorem J_if_le (hC : jC g p l s m args meth c A cc own nL ret) {a0 : Int} {off : Int} {tgt : Nat} (ha : zR a0) (hdg : decode cc pc = .ok (.ifCond .le off, 3)) (ht : (pc : Int) + off = (tgt : Int)) (kt : a0 ≤ 0 → J p l e R s m args below meth c A Q Φ cells slots tgt L st) (kf : ¬ (a0 ≤ 0) → J p l e R s m args below meth c A Q Φ cells slots (pc + 3) L st) : J p l e R s m args below meth c A Q Φ cells slots pc L (.int (zI a0) :: st) := fun H locs ls hP hS hl => by
  have hz : zR 0 := ⟨by decide, by decide⟩
  exact lv_if_le hC.1 hC.2.1 hdg ht (fun h => kt (by rw [zI_0] at h; have q := zI_le ha hz; first | exact q.mp h | (rw [← zI_eq ha hz]; exact h)) H locs ls hP hS hl) (fun h => kf (by rw [zI_0] at h; have q := zI_le ha hz; first | exact fun z => h (q.mpr z) | (rw [← zI_eq ha hz]; exact h) | exact (zI_eq ha hz).mp (Classical.not_not.mp h)) H locs ls hP hS hl)
end JS
