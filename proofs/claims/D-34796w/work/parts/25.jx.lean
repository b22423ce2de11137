/-! THE J LAYER, further rows: null, casts, reference compares, statics, shifts, Math, arraycopy, mirrors -/
set_option maxRecDepth 100000
theorem zI_max {a b : Int} (ha : zR a) (hb : zR b) : (if zI a < zI b then zI b else zI a) = zI (max a b) := by
  by_cases h : a < b
  · rw [if_pos ((zI_lt ha hb).mpr h)]; congr 1; omega
  · rw [if_neg (fun q => h ((zI_lt ha hb).mp q))]; congr 1; omega
theorem zI_min {a b : Int} (ha : zR a) (hb : zR b) : (if zI b < zI a then zI b else zI a) = zI (min a b) := by
  by_cases h : b < a
  · rw [if_pos ((zI_lt hb ha).mpr h)]; congr 1; omega
  · rw [if_neg (fun q => h ((zI_lt hb ha).mp q))]; congr 1; omega
theorem zI_abs {a : Int} (ha : zR a) : (if 0 ≤ zI a then zI a else 0 - zI a) = zI (if 0 ≤ a then a else -a) := by
  have h0 : zR 0 := ⟨by omega, by omega⟩
  rw [zI_0]
  by_cases h : 0 ≤ a
  · rw [if_pos ((zI_le h0 ha).mpr h), if_pos h]
  · rw [if_neg (fun q => h ((zI_le h0 ha).mp q)), if_neg h, zI_sub]; congr 1; omega
section JX9
variable {g : jG} {p : Program} {l : Launch} {e : Env} {R : Room} {s : State} {m : MethodId} {args : Array Value} {below : List Frame} {meth : Method} {c : Code} {A : Nat → Prop} {Q : State → Prop} {Φ Φ1 : Heap → Prop} {cells slots pc : Nat} {L : jLs} {st : List Value} {cc : ByteArray} {own : String} {nL : Nat} {ret : Option FieldType}
theorem J_null (hC : jC g p l s m args meth c A cc own nL ret) (hdg : decode cc pc = .ok (.aconst_null, 1)) (kk : J p l e R s m args below meth c A Q Φ cells slots (pc + 1) L (.null :: st)) : J p l e R s m args below meth c A Q Φ cells slots pc L st := fun H locs ls hP hS hl => lv_null (jC_exec hC) (jC_code hC) hdg (kk H locs ls hP hS hl)
theorem J_castC (hC : jC g p l s m args meth c A cc own nL ret) {a index ci N : Nat} {Cn : String} {Tb : u_T} {fs : List Value} (hlink : Cond.classLink own index Cn ∈ lw_all) (hc : jcl[ci]? = some (Cn, Tb, N)) (ho : ∀ H, Φ H → va_at g.1 jcl (a, .inr (ci, fs)) H) (hdg : decode cc pc = .ok (.checkcast index, 3)) (kk : J p l e R s m args below meth c A Q Φ cells slots (pc + 3) L (.ref a :: st)) : J p l e R s m args below meth c A Q Φ cells slots pc L (.ref a :: st) := fun H locs ls hP hS hl =>
  va_castS (jC_exec hC) (jC_code hC) (jC_own hC) (jC_ws hC _ hlink) (jK_class (jC_G hC) hc) (by
    obtain ⟨r, h1, cell, g1, g2, g3, -⟩ := ho H hP
    have hr : r = (Cn, Tb, N) := Option.some.inj (h1.symm.trans hc)
    subst hr
    exact ⟨cell, g1, by rw [g3]; rfl, by rw [g2]; exact (jK_class (jC_G hC) hc).1⟩) hdg (kk H locs ls hP hS hl)
theorem J_acmp_eq (hC : jC g p l s m args meth c A cc own nL ret) {x y : Nat} {off : Int} {tgt : Nat} (hdg : decode cc pc = .ok (.if_acmp .eq off, 3)) (ht : (pc : Int) + off = (tgt : Int)) (kt : x = y → J p l e R s m args below meth c A Q Φ cells slots tgt L st) (kf : ¬ x = y → J p l e R s m args below meth c A Q Φ cells slots (pc + 3) L st) : J p l e R s m args below meth c A Q Φ cells slots pc L (.ref y :: .ref x :: st) := fun H locs ls hP hS hl =>
  lv_acmp_eq (rx := some x) (ry := some y) (jC_exec hC) (jC_code hC) hdg ht (fun q => kt (Option.some.inj q) H locs ls hP hS hl) (fun q => kf (fun w => q (congrArg some w)) H locs ls hP hS hl)
theorem J_acmp_ne (hC : jC g p l s m args meth c A cc own nL ret) {x y : Nat} {off : Int} {tgt : Nat} (hdg : decode cc pc = .ok (.if_acmp .ne off, 3)) (ht : (pc : Int) + off = (tgt : Int)) (kt : ¬ x = y → J p l e R s m args below meth c A Q Φ cells slots tgt L st) (kf : x = y → J p l e R s m args below meth c A Q Φ cells slots (pc + 3) L st) : J p l e R s m args below meth c A Q Φ cells slots pc L (.ref y :: .ref x :: st) := fun H locs ls hP hS hl =>
  lv_acmp_ne (rx := some x) (ry := some y) (jC_exec hC) (jC_code hC) hdg ht (fun q => kt (fun w => q (congrArg some w)) H locs ls hP hS hl) (fun q => kf (Option.some.inj q) H locs ls hP hS hl)
/-- the empty array of ArrayList -/
theorem J_gete (hC : jC g p l s m args meth c A cc own nL ret) {index : Nat} (hlink : Cond.fieldLink own index "java/util/ArrayList" "DEFAULTCAPACITY_EMPTY_ELEMENTDATA" "[Ljava/lang/Object;" ∈ lw_all) (hdg : decode cc pc = .ok (.getstatic index, 3)) (kk : J p l e R s m args below meth c A Q Φ cells slots (pc + 3) L (.ref g.2.2 :: st)) : J p l e R s m args below meth c A Q Φ cells slots pc L st := fun H locs ls hP hS hl =>
  va_gets (jC_exec hC) (jC_code hC) (jC_G hC).2.2.2.2.2.2.2.2.1 hS (jC_own hC) (jC_ws hC _ hlink) (fun _ h => h) hdg (kk H locs ls hP hS hl)
theorem J_elen (hC : jC g p l s m args meth c A cc own nL ret) (hdg : decode cc pc = .ok (.arraylength, 1)) (kk : J p l e R s m args below meth c A Q Φ cells slots (pc + 1) L (.int (zI 0) :: st)) : J p l e R s m args below meth c A Q Φ cells slots pc L (.ref g.2.2 :: st) := fun H locs ls hP hS hl =>
  va_tlen (jC_exec hC) (jC_code hC) (jC_G hC).2.2.2.2.2.2.2.2.2.1 hS (v := zI 0) rfl hdg (kk H locs ls hP hS hl)
theorem J_ishr (hC : jC g p l s m args meth c A cc own nL ret) {x y v : Int} (hv : zI x >>> (zI y &&& 31) = zI v) (hdg : decode cc pc = .ok (.ishr, 1)) (kk : J p l e R s m args below meth c A Q Φ cells slots (pc + 1) L (.int (zI v) :: st)) : J p l e R s m args below meth c A Q Φ cells slots pc L (.int (zI y) :: .int (zI x) :: st) := fun H locs ls hP hS hl => lv_ishr (jC_exec hC) (jC_code hC) hdg (by rw [hv]; exact kk H locs ls hP hS hl)
theorem J_mmax (hC : jC g p l s m args meth c A cc own nL ret) {index : Nat} {a b : Int} (ha : zR a) (hb : zR b) (hlink : Cond.methodLink own index Lib.Math.max.name ∈ lw_all) (hstat : Cond.static Lib.Math.max.name ∈ lw_all) (hini : Cond.initialized "java/lang/Math" ∈ lw_all) (hcode : Cond.code Lib.Math.max.name Lib.Math.max.code 2 (some .int) ∈ lw_all) (hnL : L.length = nL) (hf : 1 ≤ R.frames) (hlo : (st.map fun v => v.category).sum + 13 ≤ R.locals) (hc : cells ≤ R.cells) (hs : slots ≤ R.slots) (hdg : decode cc pc = .ok (.invokestatic index, 3)) (kk : J p l e R s m args below meth c A Q Φ cells slots (pc + 3) L (.int (zI (max a b)) :: st)) : J p l e R s m args below meth c A Q Φ cells slots pc L (.int (zI b) :: .int (zI a) :: st) := fun H locs ls hP hS hl =>
  va_mmax (jC_exec hC) (jC_code hC) (by rw [jC_nL hC, ← hnL]; exact hl.1.symm) (jC_own hC) (jC_ws hC _ hlink) (jC_ws hC _ hstat) (jC_ws hC _ hini) (jC_ws hC _ hcode) hf hlo hc hs hdg (by rw [zI_max ha hb]; exact kk H locs ls hP hS hl)
theorem J_mmin (hC : jC g p l s m args meth c A cc own nL ret) {index : Nat} {a b : Int} (ha : zR a) (hb : zR b) (hlink : Cond.methodLink own index Lib.Math.min.name ∈ lw_all) (hstat : Cond.static Lib.Math.min.name ∈ lw_all) (hini : Cond.initialized "java/lang/Math" ∈ lw_all) (hcode : Cond.code Lib.Math.min.name Lib.Math.min.code 2 (some .int) ∈ lw_all) (hnL : L.length = nL) (hf : 1 ≤ R.frames) (hlo : (st.map fun v => v.category).sum + 13 ≤ R.locals) (hc : cells ≤ R.cells) (hs : slots ≤ R.slots) (hdg : decode cc pc = .ok (.invokestatic index, 3)) (kk : J p l e R s m args below meth c A Q Φ cells slots (pc + 3) L (.int (zI (min a b)) :: st)) : J p l e R s m args below meth c A Q Φ cells slots pc L (.int (zI b) :: .int (zI a) :: st) := fun H locs ls hP hS hl =>
  va_mmin (jC_exec hC) (jC_code hC) (by rw [jC_nL hC, ← hnL]; exact hl.1.symm) (jC_own hC) (jC_ws hC _ hlink) (jC_ws hC _ hstat) (jC_ws hC _ hini) (jC_ws hC _ hcode) hf hlo hc hs hdg (by rw [zI_min ha hb]; exact kk H locs ls hP hS hl)
theorem J_mabs (hC : jC g p l s m args meth c A cc own nL ret) {index : Nat} {a : Int} (ha : zR a) (hlink : Cond.methodLink own index Lib.Math.abs.name ∈ lw_all) (hstat : Cond.static Lib.Math.abs.name ∈ lw_all) (hini : Cond.initialized "java/lang/Math" ∈ lw_all) (hcode : Cond.code Lib.Math.abs.name Lib.Math.abs.code 1 (some .int) ∈ lw_all) (hnL : L.length = nL) (hf : 1 ≤ R.frames) (hlo : (st.map fun v => v.category).sum + 13 ≤ R.locals) (hc : cells ≤ R.cells) (hs : slots ≤ R.slots) (hdg : decode cc pc = .ok (.invokestatic index, 3)) (kk : J p l e R s m args below meth c A Q Φ cells slots (pc + 3) L (.int (zI (if 0 ≤ a then a else -a)) :: st)) : J p l e R s m args below meth c A Q Φ cells slots pc L (.int (zI a) :: st) := fun H locs ls hP hS hl =>
  va_mabs (jC_exec hC) (jC_code hC) (by rw [jC_nL hC, ← hnL]; exact hl.1.symm) (jC_own hC) (jC_ws hC _ hlink) (jC_ws hC _ hstat) (jC_ws hC _ hini) (jC_ws hC _ hcode) hf hlo hc hs hdg (by rw [zI_abs ha]; exact kk H locs ls hP hS hl)
theorem J_ldcM (hC : jC g p l s m args meth c A cc own nL ret) {index mi : Nat} (hM : va_Mi "[Ljava/lang/Object;" mi s) (hlink : Cond.classLink own index "[Ljava/lang/Object;" ∈ lw_all) (hdg : decode cc pc = .ok (.ldc index, 2)) (kk : J p l e R s m args below meth c A Q Φ cells slots (pc + 2) L (.ref mi :: st)) : J p l e R s m args below meth c A Q Φ cells slots pc L st := fun H locs ls hP hS hl =>
  va_ldcM (jC_exec hC) (jC_code hC) (jC_own hC) (jC_ws hC _ hlink) hM hdg (kk H locs ls hP hS hl)
/-- the class of an array of Objects -/
theorem J_getC (hC : jC g p l s m args meth c A cc own nL ret) {index mi a n : Nat} {f : Nat → Option Nat} (hM : va_Mi "[Ljava/lang/Object;" mi s) (hlink : Cond.methodLink own index ⟨"java/lang/Object", "getClass", "()Ljava/lang/Class;"⟩ ∈ lw_all) (hdecl : Cond.declares ⟨"java/lang/Object", "getClass", "()Ljava/lang/Class;"⟩ ∈ lw_tbl) (hsel : Cond.selects "[Ljava/lang/Object;" ⟨"java/lang/Object", "getClass", "()Ljava/lang/Class;"⟩ ⟨"java/lang/Object", "getClass", "()Ljava/lang/Class;"⟩ ∈ lw_all) (hinst : Cond.instanceMethod ⟨"java/lang/Object", "getClass", "()Ljava/lang/Class;"⟩ ∈ lw_all) (hnat : Cond.native ⟨"java/lang/Object", "getClass", "()Ljava/lang/Class;"⟩ ∈ lw_all) (ho : ∀ H, Φ H → va_at g.1 jcl (a, jQ (g.2.1 3) n f) H) (hnL : L.length = nL) (hf : 1 ≤ R.frames) (hlo : (st.map fun v => v.category).sum + 14 ≤ R.locals) (hdg : decode cc pc = .ok (.invokevirtual index, 3)) (kk : J p l e R s m args below meth c A Q Φ cells slots (pc + 3) L (.ref mi :: st)) : J p l e R s m args below meth c A Q Φ cells slots pc L (.ref a :: st) := fun H locs ls hP hS hl =>
  va_getC (jC_exec hC) (jC_code hC) (by rw [jC_nL hC, ← hnL]; exact hl.1.symm) (jC_own hC) (jC_ws hC _ hlink) (va_Nw.use rfl (GG_nw (jC_G hC) hdecl rfl)) (jC_ws hC _ hsel) (jC_ws hC _ hinst) (jC_ws hC _ hnat) hM (by
    obtain ⟨kA', comp', -, -, -, hnm⟩ := ((jC_K hC).2 3 _ rfl).2
    exact ⟨_, ho H hP, rfl, hnm⟩) hf hlo hdg (kk H locs ls hP hS hl)
/-- an array of Objects into another one, from the start -/
theorem J_copyq (hC : jC g p l s m args meth c A cc own nL ret) {index a0 a n0 n1 k ci N : Nat} {f h : Nat → Option Nat} {Cn : String} {Tb : u_T} (hlink : Cond.methodLink own index arraycopyName ∈ lw_all) (hnat : Cond.native arraycopyName ∈ lw_all) (hstat : Cond.static arraycopyName ∈ lw_all) (hini : Cond.initialized "java/lang/System" ∈ lw_all) (hc : jcl[ci]? = some (Cn, Tb, N)) (hcast : Cond.castable Cn "java/lang/Object" ∈ lw_tbl) (h4 : k ≤ n0) (h5 : k ≤ n1) (hk : k < 2147483648) (ho : ∀ H, Φ H → va_at g.1 jcl (a0, jQ (g.2.1 3) n0 f) H ∧ va_at g.1 jcl (a, jQ (g.2.1 3) n1 h) H ∧ A a) (hel : ∀ H, Φ H → ∀ i : Nat, i < k → ∀ y : Nat, f i = some y → ∃ fs : List Value, va_at g.1 jcl (y, .inr (ci, fs)) H) (hset : ∀ H H1, Φ H → va_at g.1 jcl (a, jQ (g.2.1 3) n1 (fun j => if j < k then f j else h j)) H1 → H1.size = H.size → (∀ q, q ≠ a → H1[q]? = H[q]?) → Φ1 H1) (hnL : L.length = nL) (hf : 1 ≤ R.frames) (hlo : (st.map fun v => v.category).sum + (nativeFrameWords "java/lang/System" "arraycopy" 5 + 11) ≤ R.locals) (hdg : decode cc pc = .ok (.invokestatic index, 3)) (kk : J p l e R s m args below meth c A Q Φ1 cells slots (pc + 3) L st) : J p l e R s m args below meth c A Q Φ cells slots pc L (.int (zI (k : Int)) :: .int (zI 0) :: .ref a :: .int (zI 0) :: .ref a0 :: st) := fun H locs ls hP hS hl => by
  intro T hT X
  have hkr : zR (k : Int) := ⟨by omega, by omega⟩
  have h0r : zR 0 := ⟨by omega, by omega⟩
  have c0 : (zI 0).toNatClampNeg = 0 := rfl
  have ck : (zI (k : Int)).toNatClampNeg = k := by rw [zI_clamp hkr]; omega
  obtain ⟨hc0, hc1, hAa⟩ := ho H hP
  have hc0 : H[a0]? = some (vp_cell (g.2.1 3) (n0, .inr (.inr (.inr (.inr f))))) := hc0
  have hc1 : H[a]? = some (vp_cell (g.2.1 3) (n1, .inr (.inr (.inr (.inr h))))) := hc1
  obtain ⟨-, k0, hk0, cm0, hkk0⟩ := ((jC_K hC).2 3 _ rfl).1 n0 (fun j => va_rf (f j))
  obtain ⟨-, k1, hk1, cm1, hkk1⟩ := ((jC_K hC).2 3 _ rfl).1 n1 (fun j => va_rf (h j))
  have hcls := jK_class (jC_G hC) hc
  have hcs := GG_nw (jC_G hC) hcast rfl
  obtain ⟨cC, tO, e1, e2, e3⟩ := Cond.castable_spec hcs
  cases hcls.1.symm.trans e1
  obtain ⟨vm', X', step⟩ := X.arraycopy (jC_exec hC) (jC_own hC) (jC_ws hC _ hlink) (jC_ws hC _ hnat) (jC_ws hC _ hstat) (jC_ws hC _ hini) (src := a0) (dst := a) (cs := vp_cell (g.2.1 3) (n0, .inr (.inr (.inr (.inr f))))) (cd := vp_cell (g.2.1 3) (n1, .inr (.inr (.inr (.inr h))))) (srcPos := zI 0) (destPos := zI 0) (n := zI (k : Int)) (by rw [hT]; exact hc0) (by rw [hT]; exact hc1)
    (fun _ h => by cases h) (fun _ h => by cases h) (fun h => by cases h) (fun h => by cases h) hk0 hk1 hkk0 hkk1 rfl (by decide) (by decide) (by rw [zI_0, zI_lt hkr h0r]; omega)
    (by rw [zI_toInt h0r, zI_toInt hkr]; show ¬ _ > ((arrV _ n0 (fun j => va_rf (f j))).slots.size : Int); rw [arrV_size]; omega)
    (by rw [zI_toInt h0r, zI_toInt hkr]; show ¬ _ > ((arrV _ n1 (fun j => va_rf (h j))).slots.size : Int); rw [arrV_size]; omega)
    (fun vm₁ hal i hi => by
      rw [ck] at hi
      have e : (vp_cell (g.2.1 3) (n0, .inr (.inr (.inr (.inr f))))).slots.getD ((zI 0).toNatClampNeg + i) .null = va_rf (f i) := by
        show (arrV (g.2.1 3) n0 (fun j => va_rf (f j))).slots.getD _ _ = _
        rw [Array.getD_eq_getD_getElem?, c0, Nat.zero_add, arrV_read _ _ (by omega)]
        rfl
      rw [e]
      cases hy : f i with
      | none => exact ⟨rfl, trivial⟩
      | some y =>
        obtain ⟨fs, r', hr', cellV, g1, g2, g3, -⟩ := hel H hP i hi y hy
        have hr : r' = (Cn, Tb, N) := Option.some.inj (hr'.symm.trans hc)
        subst hr
        obtain ⟨kA, comp, r1, r2, r3, -⟩ := ((jC_K hC).2 3 _ rfl).2
        cases hk1.symm.trans r1
        cases hkk1.symm.trans r2
        obtain ⟨kC, hkC, -⟩ := hcls.2
        obtain ⟨kE, hkE, -⟩ := Vm.findClass_spec r3
        obtain ⟨kC', hkC', -⟩ := hal.2.2 _ _ hkC
        obtain ⟨kE', hkE', -⟩ := hal.2.2 _ _ hkE
        cases r3.symm.trans e2
        refine ⟨rfl, cellV, (show T.heap[y]? = some cellV by rw [hT]; exact g1), (fun q h => by rw [g3] at h; cases h), ⟨kC', by rw [g2]; exact hkC'⟩, ?_, ?_⟩
        · exact ⟨kE', hkE'⟩
        · show vm₁.assignable _ _ = true
          rw [hal.assignable, g2]
          exact e3)
    (g := F0 m pc ls (.int (zI (k : Int)) :: .int (zI 0) :: .ref a :: .int (zI 0) :: .ref a0 :: st)) rfl (by rw [jC_nL hC, ← hnL]; exact hl.1) (rest := st) rfl (by rw [jC_code hC]; exact hdg) hf (by show 2 * 0 + _ + _ ≤ _; omega)
  have e1 : copied (vp_cell (g.2.1 3) (n0, .inr (.inr (.inr (.inr f))))) (vp_cell (g.2.1 3) (n1, .inr (.inr (.inr (.inr h))))) (zI 0) (zI 0) (zI (k : Int)) = vp_cell (g.2.1 3) (n1, .inr (.inr (.inr (.inr (fun j => if j < k then f j else h j))))) := by
    rw [vp_cell_q, vp_cell_q, vp_cell_q]
    have e2 := va_copied (sp := 0) (dp := 0) (n := k) (n0 := n0) (n1 := n1) (fun z => va_rf z) (g.2.1 3) (g.2.1 3) f h (by omega)
    have e3 : va_cpy f h 0 0 k = fun j => if j < k then f j else h j := by
      funext j
      unfold va_cpy
      simp
    rw [e3] at e2
    rw [← e2]
    show Cell.storeRun _ (zI 0).toNatClampNeg (Cell.stretch _ (zI 0).toNatClampNeg (zI (k : Int)).toNatClampNeg) = _
    rw [ck, c0]
  rw [e1] at X' step
  have hlt : a < H.size := (Array.getElem?_eq_some_iff.mp hc1).1
  have oq : ∀ q : Nat, q ≠ a → (H.setIfInBounds a (vp_cell (g.2.1 3) (n1, .inr (.inr (.inr (.inr (fun j => if j < k then f j else h j)))))))[q]? = H[q]? := fun q hq => by simp [Array.getElem?_setIfInBounds, Ne.symm hq]
  obtain ⟨t, a1, b1⟩ := kk (H.setIfInBounds a (vp_cell (g.2.1 3) (n1, .inr (.inr (.inr (.inr (fun j => if j < k then f j else h j))))))) _ ls (hset H _ hP (show (H.setIfInBounds a _)[a]? = some _ by simp [Array.getElem?_setIfInBounds, hlt]) (by simp) oq) ⟨by simp; exact hS.1, fun q g1 g2 => by
      rw [oq q (fun e => g2 (by rw [e]; exact hAa))]
      exact hS.2.1 q g1 g2, fun q hq => by
      rcases List.mem_append.mp hq with h | h
      · exact hS.2.2 q h
      · obtain ⟨z, -, hz⟩ := List.mem_map.mp h
        rw [← hz]
        exact hAa⟩ hl ((T.setVm vm').setCell a (vp_cell (g.2.1 3) (n1, .inr (.inr (.inr (.inr (fun j => if j < k then f j else h j))))))) (by rw [← hT]; rfl) X'
  exact ⟨t, step t a1, b1⟩
theorem J_popN (hC : jC g p l s m args meth c A cc own nL ret) {v : Value} (hv : v.category = 1) (hdg : decode cc pc = .ok (.pop, 1)) (kk : J p l e R s m args below meth c A Q Φ cells slots (pc + 1) L st) : J p l e R s m args below meth c A Q Φ cells slots pc L (v :: st) := J_pop hC hdg hv kk
end JX9
