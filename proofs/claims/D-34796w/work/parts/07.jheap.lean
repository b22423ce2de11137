/-! THE J LAYER, heap: fields, arrays, new objects, calls, entry and end -/
set_option maxRecDepth 100000
section JH
variable {g : jG} {p : Program} {l : Launch} {e : Env} {R : Room} {s : State} {m : MethodId} {args : Array Value} {below : List Frame} {meth : Method} {c : Code} {A : Nat → Prop} {Q : State → Prop} {Φ Φ1 : Heap → Prop} {cells slots pc : Nat} {L : jLs} {st : List Value} {cc : ByteArray} {own : String} {nL : Nat} {ret : Option FieldType}
theorem jC_exec (hC : jC g p l s m args meth c A cc own nL ret) : p.tables.exec = Jvm.exec := hC.1
theorem jC_code (hC : jC g p l s m args meth c A cc own nL ret) : c.code = cc := hC.2.1
theorem jC_nL (hC : jC g p l s m args meth c A cc own nL ret) : c.maxLocals = nL := hC.2.2.1
theorem jC_own (hC : jC g p l s m args meth c A cc own nL ret) : s.vm.findClass own = some m.cls := hC.2.2.2.1
theorem jC_ws (hC : jC g p l s m args meth c A cc own nL ret) : ∀ w ∈ lw_all, w.before args s = true := hC.2.2.2.2.1
theorem jC_ret (hC : jC g p l s m args meth c A cc own nL ret) : meth.sig.returnType = ret := hC.2.2.2.2.2.1
theorem jC_locks (hC : jC g p l s m args meth c A cc own nL ret) : meth.locks = false := hC.2.2.2.2.2.2.1
theorem jC_new (hC : jC g p l s m args meth c A cc own nL ret) : ∀ q : Nat, s.heap.size ≤ q → A q := hC.2.2.2.2.2.2.2.1
theorem jC_G (hC : jC g p l s m args meth c A cc own nL ret) : GG g A s := hC.2.2.2.2.2.2.2.2.1
theorem jC_nt (hC : jC g p l s m args meth c A cc own nL ret) : l.stackTraces = false := hC.2.2.2.2.2.2.2.2.2
theorem jC_K (hC : jC g p l s m args meth c A cc own nL ret) : va_K g.1 jcl (jty g.2.1) s := (jC_G hC).1
theorem jK_class {g : jG} {A : Nat → Prop} {U : State} (h : GG g A U) {ci : Nat} {r : vw_C} (hc : jcl[ci]? = some r) : ClassAt U r.1 (g.1.1 ci) := (h.1.1 ci r hc).2

theorem J_get (hC : jC g p l s m args meth c A cc own nL ret) {a : Nat} {ref C : String} {T : u_T} {N ci index k : Nat} {fs : List Value} {v : Value} (hin : ∀ w ∈ u_ws C T N, w ∈ lw_all) (hc : jcl[ci]? = some (C, T, N)) (hk : k < N) (hlink : Cond.fieldLink own index ref (T k).2.1 (T k).2.2.1 ∈ lw_all) (hsame : ∀ x, s.fieldFound? (T k).1 (T k).2.1 (T k).2.2.1 = some x → s.fieldFound? ref (T k).2.1 (T k).2.2.1 = some x) (ho : ∀ H, Φ H → va_at g.1 jcl (a, .inr (ci, fs)) H) (hv : fs[k]? = some v) (hdg : decode cc pc = .ok (.getfield index, 3)) (kk : J p l e R s m args below meth c A Q Φ cells slots (pc + 3) L (v :: st)) : J p l e R s m args below meth c A Q Φ cells slots pc L (.ref a :: st) := fun H locs ls hP hS hl => by
  obtain ⟨r, h1, cell, q1, q2, q3, q4⟩ := ho H hP
  have hr : r = (C, T, N) := Option.some.inj (h1.symm.trans hc)
  subst hr
  obtain ⟨hSl, hfc, kC, hkC, hkind⟩ := (jC_K hC).1 ci _ hc
  obtain ⟨cf, kf, fi, f, hi, hsl⟩ := hSl k hk
  refine W.getf (jC_exec hC) (jC_code hC) (jC_own hC) (jC_ws hC _ hlink) (hsame _ hi) (u_facts hfc hkC (u_lays (jC_ws hC) hin hk) hi).1 q1 (by rw [q3]; exact fun h => by cases h) (v := v) ?_ rfl rfl hdg (kk H locs ls hP hS hl)
  rw [hsl, q4 k hk]
  simp [vp_V, hv]
theorem J_getN (hC : jC g p l s m args meth c A cc own nL ret) {a : Nat} {ref C : String} {T : u_T} {N ci index k : Nat} {fs : List Value} {v : Value} (hin : ∀ w ∈ u_ws C T N, w ∈ lw_all) (hc : jcl[ci]? = some (C, T, N)) (hk : k < N) {host : String} (hlink : Cond.fieldLinkNest own index ref (T k).2.1 (T k).2.2.1 host ∈ lw_tbl) (hsame : ∀ x, s.fieldFound? (T k).1 (T k).2.1 (T k).2.2.1 = some x → s.fieldFound? ref (T k).2.1 (T k).2.2.1 = some x) (ho : ∀ H, Φ H → va_at g.1 jcl (a, .inr (ci, fs)) H) (hv : fs[k]? = some v) (hdg : decode cc pc = .ok (.getfield index, 3)) (kk : J p l e R s m args below meth c A Q Φ cells slots (pc + 3) L (v :: st)) : J p l e R s m args below meth c A Q Φ cells slots pc L (.ref a :: st) := fun H locs ls hP hS hl => by
  obtain ⟨r, h1, cell, q1, q2, q3, q4⟩ := ho H hP
  have hr : r = (C, T, N) := Option.some.inj (h1.symm.trans hc)
  subst hr
  obtain ⟨hSl, hfc, kC, hkC, hkind⟩ := (jC_K hC).1 ci _ hc
  obtain ⟨cf, kf, fi, f, hi, hsl⟩ := hSl k hk
  refine va_Wgetf (jC_exec hC) (jC_code hC) (jC_own hC) (va_Nw.use rfl (GG_nw (jC_G hC) hlink rfl)) (hsame _ hi) (u_facts hfc hkC (u_lays (jC_ws hC) hin hk) hi).1 q1 (by rw [q3]; exact fun h => by cases h) (v := v) ?_ rfl rfl hdg (kk H locs ls hP hS hl)
  rw [hsl, q4 k hk]
  simp [vp_V, hv]
theorem J_put (hC : jC g p l s m args meth c A cc own nL ret) {a : Nat} {ref C : String} {T : u_T} {N ci index k : Nat} {fs : List Value} {v : Value} {ty : FieldType} {ty0 : Nat → FieldType} (hin : ∀ w ∈ u_ws C T N, w ∈ lw_all) (hty : ∀ k, k < N → parseFieldDescriptor (T k).2.2.1 = some (ty0 k)) (hnm : ∀ a, a < N → ∀ b, b < N → a ≠ b → (T a).2.1 ≠ (T b).2.1) (hc : jcl[ci]? = some (C, T, N)) (hk : k < N) (hlink : Cond.fieldLink own index ref (T k).2.1 (T k).2.2.1 ∈ lw_all) (hsame : ∀ x, s.fieldFound? (T k).1 (T k).2.1 (T k).2.2.1 = some x → s.fieldFound? ref (T k).2.1 (T k).2.2.1 = some x) (hfin : (T k).2.2.2 = false) (hd : ty0 k = ty) (hn : narrow ty v = v) (hfit : fits ty v = true) (hl0 : k < fs.length) (ho : ∀ H, Φ H → va_at g.1 jcl (a, .inr (ci, fs)) H ∧ A a) (hset : ∀ H H1, Φ H → va_at g.1 jcl (a, .inr (ci, fs.set k v)) H1 → H1.size = H.size → (∀ q, q ≠ a → H1[q]? = H[q]?) → Φ1 H1) (hdg : decode cc pc = .ok (.putfield index, 3)) (kk : J p l e R s m args below meth c A Q Φ1 cells slots (pc + 3) L st) : J p l e R s m args below meth c A Q Φ cells slots pc L (v :: .ref a :: st) := fun H locs ls hP hS hl => by
  have hap := va_apart (own := own) (jC_ws hC) hin ty0 hty hnm (jC_K hC) hc
  obtain ⟨r, h1, cell, q1, q2, q3, q4⟩ := (ho H hP).1
  have hr : r = (C, T, N) := Option.some.inj (h1.symm.trans hc)
  subst hr
  obtain ⟨hSl, hfc, kC, hkC, hkind⟩ := (jC_K hC).1 ci _ hc
  obtain ⟨cf, kf, fi, f, hi, hsl⟩ := hSl k hk
  have hlay := jC_ws hC _ (hin _ (u_in_lay hk))
  unfold u_lay at hlay
  rw [if_neg (by rw [hfin]; decide)] at hlay
  have hst := (u_facts hfc hkC (u_lays (jC_ws hC) hin hk) hi).1
  have hd' : parseFieldDescriptor (T k).2.2.1 = some ty := by rw [hty k hk, hd]
  have h6 := u_store hfc hkC hkind hlay hi hd' hn hfit
  refine W.putK (jC_exec hC) (jC_code hC) (f := f) ⟨jC_own hC, jC_ws hC _ hlink, ⟨_, _, _, hsame _ hi⟩, hst⟩ (by rw [q2]; exact h6) q1 q3 (by rw [hsl]; exact k2_hasslot (q4 k hk)) rfl rfl hdg fun H' e1 e2 e3 => ?_
  rw [hsl] at e1 ⊢
  exact kk H' _ ls (hset H H' hP ⟨_, hc, t_OB.to (V := updV (vp_V fs) k v) ⟨_, e1, q2, q3, t_set q4 hap hk v⟩ (fun j _ => vp_updV_set hl0 v j)⟩ e2 e3) (hS.put e2 e3 (ho H hP).2) hl
theorem J_putN (hC : jC g p l s m args meth c A cc own nL ret) {a : Nat} {ref C : String} {T : u_T} {N ci index k : Nat} {fs : List Value} {v : Value} {ty : FieldType} {ty0 : Nat → FieldType} (hin : ∀ w ∈ u_ws C T N, w ∈ lw_all) (hty : ∀ k, k < N → parseFieldDescriptor (T k).2.2.1 = some (ty0 k)) (hnm : ∀ a, a < N → ∀ b, b < N → a ≠ b → (T a).2.1 ≠ (T b).2.1) (hc : jcl[ci]? = some (C, T, N)) (hk : k < N) {host : String} (hlink : Cond.fieldLinkNest own index ref (T k).2.1 (T k).2.2.1 host ∈ lw_tbl) (hsame : ∀ x, s.fieldFound? (T k).1 (T k).2.1 (T k).2.2.1 = some x → s.fieldFound? ref (T k).2.1 (T k).2.2.1 = some x) (hfin : (T k).2.2.2 = false) (hd : ty0 k = ty) (hn : narrow ty v = v) (hfit : fits ty v = true) (hl0 : k < fs.length) (ho : ∀ H, Φ H → va_at g.1 jcl (a, .inr (ci, fs)) H ∧ A a) (hset : ∀ H H1, Φ H → va_at g.1 jcl (a, .inr (ci, fs.set k v)) H1 → H1.size = H.size → (∀ q, q ≠ a → H1[q]? = H[q]?) → Φ1 H1) (hdg : decode cc pc = .ok (.putfield index, 3)) (kk : J p l e R s m args below meth c A Q Φ1 cells slots (pc + 3) L st) : J p l e R s m args below meth c A Q Φ cells slots pc L (v :: .ref a :: st) := fun H locs ls hP hS hl => by
  have hap := va_apart (own := own) (jC_ws hC) hin ty0 hty hnm (jC_K hC) hc
  obtain ⟨r, h1, cell, q1, q2, q3, q4⟩ := (ho H hP).1
  have hr : r = (C, T, N) := Option.some.inj (h1.symm.trans hc)
  subst hr
  obtain ⟨hSl, hfc, kC, hkC, hkind⟩ := (jC_K hC).1 ci _ hc
  obtain ⟨cf, kf, fi, f, hi, hsl⟩ := hSl k hk
  have hlay := jC_ws hC _ (hin _ (u_in_lay hk))
  unfold u_lay at hlay
  rw [if_neg (by rw [hfin]; decide)] at hlay
  have hst := (u_facts hfc hkC (u_lays (jC_ws hC) hin hk) hi).1
  have hd' : parseFieldDescriptor (T k).2.2.1 = some ty := by rw [hty k hk, hd]
  have h6 := u_store hfc hkC hkind hlay hi hd' hn hfit
  refine va_WputK (jC_exec hC) (jC_code hC) (f := f) (jC_own hC) (va_Nw.use rfl (GG_nw (jC_G hC) hlink rfl)) (hsame _ hi) hst (by rw [q2]; exact h6) q1 q3 (by rw [hsl]; exact k2_hasslot (q4 k hk)) rfl rfl hdg fun H' e1 e2 e3 => ?_
  rw [hsl] at e1 ⊢
  exact kk H' _ ls (hset H H' hP ⟨_, hc, t_OB.to (V := updV (vp_V fs) k v) ⟨_, e1, q2, q3, t_set q4 hap hk v⟩ (fun j _ => vp_updV_set hl0 v j)⟩ e2 e3) (hS.put e2 e3 (ho H hP).2) hl
/-- a final field, in a constructor of its class -/
theorem J_putF (hC : jC g p l s m args meth c A cc own nL ret) {a : Nat} {ref C : String} {T : u_T} {N ci index k : Nat} {fs : List Value} {v : Value} {ty : FieldType} {ty0 : Nat → FieldType} (hini : meth.name = "<init>") (hin : ∀ w ∈ u_ws C T N, w ∈ lw_all) (hty : ∀ k, k < N → parseFieldDescriptor (T k).2.2.1 = some (ty0 k)) (hnm : ∀ a, a < N → ∀ b, b < N → a ≠ b → (T a).2.1 ≠ (T b).2.1) (hc : jcl[ci]? = some (C, T, N)) (hk : k < N) (hlink : Cond.fieldLink own index ref (T k).2.1 (T k).2.2.1 ∈ lw_all) (hsame : ∀ x, s.fieldFound? (T k).1 (T k).2.1 (T k).2.2.1 = some x → s.fieldFound? ref (T k).2.1 (T k).2.2.1 = some x) (hfin : (T k).2.2.2 = true) (hdecl : (T k).1 = own) (hd : ty0 k = ty) (hn : narrow ty v = v) (hfit : fits ty v = true) (hl0 : k < fs.length) (ho : ∀ H, Φ H → va_at g.1 jcl (a, .inr (ci, fs)) H ∧ A a) (hset : ∀ H H1, Φ H → va_at g.1 jcl (a, .inr (ci, fs.set k v)) H1 → H1.size = H.size → (∀ q, q ≠ a → H1[q]? = H[q]?) → Φ1 H1) (hdg : decode cc pc = .ok (.putfield index, 3)) (kk : J p l e R s m args below meth c A Q Φ1 cells slots (pc + 3) L st) : J p l e R s m args below meth c A Q Φ cells slots pc L (v :: .ref a :: st) := fun H locs ls hP hS hl => by
  have hap := va_apart (own := own) (jC_ws hC) hin ty0 hty hnm (jC_K hC) hc
  obtain ⟨r, h1, cell, q1, q2, q3, q4⟩ := (ho H hP).1
  have hr : r = (C, T, N) := Option.some.inj (h1.symm.trans hc)
  subst hr
  obtain ⟨hSl, hfc, kC, hkC, hkind⟩ := (jC_K hC).1 ci _ hc
  obtain ⟨cf, kf, fi, f, hi, hsl⟩ := hSl k hk
  have hlay := jC_ws hC _ (hin _ (u_in_lay hk))
  unfold u_lay at hlay
  rw [if_pos hfin] at hlay
  have hst := (u_facts hfc hkC (u_lays (jC_ws hC) hin hk) hi).1
  have hcf : m.cls = cf := by
    obtain ⟨_, _, c', _, _, _, -, -, hf', -, -, -, hown2, -⟩ := Cond.laysFinal_spec hlay
    have e1 : c' = cf := by have := hi.symm.trans hf'; simp at this; exact this.1.symm
    rw [hdecl] at hown2
    rw [← e1]; exact Option.some.inj ((jC_own hC).symm.trans hown2)
  have hd' : parseFieldDescriptor (T k).2.2.1 = some ty := by rw [hty k hk, hd]
  have h6 := u_fits hfc hkC hkind (Or.inr hlay) hi hd' hn hfit
  refine W.putFinK (jC_exec hC) (jC_code hC) (jC_own hC) (jC_ws hC _ hlink) (hsame _ hi) hst hcf hini (by rw [q2]; exact h6) q1 q3 (by rw [hsl]; exact k2_hasslot (q4 k hk)) rfl rfl hdg fun H' e1 e2 e3 => ?_
  rw [hsl] at e1 ⊢
  exact kk H' _ ls (hset H H' hP ⟨_, hc, t_OB.to (V := updV (vp_V fs) k v) ⟨_, e1, q2, q3, t_set q4 hap hk v⟩ (fun j _ => vp_updV_set hl0 v j)⟩ e2 e3) (hS.put e2 e3 (ho H hP).2) hl
/-- an int array's cell: its contents by integers -/
abbrev jI (d : ClassId) (n : Nat) (f : Int → Int) : va_E := .inl (d, n, .inl (fun j : Nat => zI (f (j : Int))))
/-- a long array's cell -/
abbrev jLo (d : ClassId) (n : Nat) (f : Nat → Int64) : va_E := .inl (d, n, .inr (.inl f))
/-- an array of references -/
abbrev jQ (d : ClassId) (n : Nat) (f : Nat → Option Nat) : va_E := .inl (d, n, .inr (.inr (.inr (.inr f))))
def upI (f : Int → Int) (i v : Int) : Int → Int := fun j => if j = i then v else f j
theorem upI_self (f : Int → Int) (i v : Int) : upI f i v i = v := if_pos rfl
theorem upI_ne (f : Int → Int) {i j v : Int} (h : j ≠ i) : upI f i v j = f j := if_neg h
theorem jI_up (d : ClassId) (n : Nat) (f : Int → Int) {i : Int} (v : Int) (h0 : 0 ≤ i) (hi : zR i) : (.inl (d, n, .inl (upd (fun j : Nat => zI (f (j : Int))) (zI i).toNatClampNeg (zI v))) : va_E) = jI d n (upI f i v) := by
  refine congrArg (fun x : Nat → Int32 => (Sum.inl (d, n, Sum.inl x) : va_E)) ?_
  funext j
  rw [zI_clamp hi]
  unfold upd upI
  by_cases hj : j = i.toNat
  · have h2 : (j : Int) = i := by omega
    rw [if_pos hj, if_pos h2]
  · have h2 : ¬ (j : Int) = i := by omega
    rw [if_neg hj, if_neg h2]
theorem J_iald (hC : jC g p l s m args meth c A cc own nL ret) {a n : Nat} {f : Int → Int} {i : Int} (h0 : 0 ≤ i) (hn : i < n) (hz : n < 2147483648) (ho : ∀ H, Φ H → va_at g.1 jcl (a, jI (g.2.1 0) n f) H) (hdg : decode cc pc = .ok (.iaload, 1)) (kk : J p l e R s m args below meth c A Q Φ cells slots (pc + 1) L (.int (zI (f i)) :: st)) : J p l e R s m args below meth c A Q Φ cells slots pc L (.int (zI i) :: .ref a :: st) := fun H locs ls hP hS hl => by
  have hi : zR i := ⟨by omega, by omega⟩
  have hin := zI_in h0 hn hz
  have hlt : (zI i).toNatClampNeg < n := by rw [zI_clamp hi]; omega
  have e : f ((zI i).toNatClampNeg : Int) = f i := by rw [zI_clamp hi, Int.toNat_of_nonneg h0]
  exact W.iald (v := .int (zI (f i))) (jC_exec hC) (jC_code hC) (ho H hP) (((jC_K hC).2 0 _ rfl).1 n (fun j => .int (zI (f (j : Int))))) (fun q => by cases q) (by show ¬ (zI i < 0 ∨ (arrV _ _ _).slots.size ≤ _); rw [arrV_size]; exact hin) (by show (arrV _ _ _).slots[_]? = _; rw [arrV_read _ _ hlt]; exact congrArg (fun z => some (Value.int (zI z))) e) rfl rfl hdg (kk H locs ls hP hS hl)
theorem J_zald (hC : jC g p l s m args meth c A cc own nL ret) {a n : Nat} {f : Int → Int} {i : Int} (h0 : 0 ≤ i) (hn : i < n) (hz : n < 2147483648) (ho : ∀ H, Φ H → va_at g.1 jcl (a, jI (g.2.1 1) n f) H) (hdg : decode cc pc = .ok (.baload, 1)) (kk : J p l e R s m args below meth c A Q Φ cells slots (pc + 1) L (.int (zI (f i)) :: st)) : J p l e R s m args below meth c A Q Φ cells slots pc L (.int (zI i) :: .ref a :: st) := fun H locs ls hP hS hl => by
  have hi : zR i := ⟨by omega, by omega⟩
  have hin := zI_in h0 hn hz
  have hlt : (zI i).toNatClampNeg < n := by rw [zI_clamp hi]; omega
  have e : f ((zI i).toNatClampNeg : Int) = f i := by rw [zI_clamp hi, Int.toNat_of_nonneg h0]
  exact W.zald (v := .int (zI (f i))) (jC_exec hC) (jC_code hC) (ho H hP) (((jC_K hC).2 1 _ rfl).1 n (fun j => .int (zI (f (j : Int))))) (fun q => by cases q) (by show ¬ (zI i < 0 ∨ (arrV _ _ _).slots.size ≤ _); rw [arrV_size]; exact hin) (by show (arrV _ _ _).slots[_]? = _; rw [arrV_read _ _ hlt]; exact congrArg (fun z => some (Value.int (zI z))) e) rfl rfl hdg (kk H locs ls hP hS hl)
theorem J_iast (hC : jC g p l s m args meth c A cc own nL ret) {a n : Nat} {f : Int → Int} {i v : Int} (h0 : 0 ≤ i) (hn : i < n) (hz : n < 2147483648) (ho : ∀ H, Φ H → va_at g.1 jcl (a, jI (g.2.1 0) n f) H ∧ A a) (hset : ∀ H H1, Φ H → va_at g.1 jcl (a, jI (g.2.1 0) n (upI f i v)) H1 → H1.size = H.size → (∀ q, q ≠ a → H1[q]? = H[q]?) → Φ1 H1) (hdg : decode cc pc = .ok (.iastore, 1)) (kk : J p l e R s m args below meth c A Q Φ1 cells slots (pc + 1) L st) : J p l e R s m args below meth c A Q Φ cells slots pc L (.int (zI v) :: .int (zI i) :: .ref a :: st) := fun H locs ls hP hS hl => by
  have hi : zR i := ⟨by omega, by omega⟩
  have hin := zI_in h0 hn hz
  refine W.iast (jC_exec hC) (jC_code hC) (ho H hP).1 (((jC_K hC).2 0 _ rfl).1 n (fun j => .int (zI (f (j : Int))))) (fun q => by cases q) (by show ¬ (zI i < 0 ∨ (arrV _ _ _).slots.size ≤ _); rw [arrV_size]; exact hin) rfl rfl hdg fun H1 e z oq => ?_
  refine kk H1 _ ls (hset H H1 hP ?_ z oq) (hS.put z oq (ho H hP).2) hl
  rw [← jI_up _ n f v h0 hi]
  show H1[a]? = some (vp_cell _ _)
  rw [e, vp_cell_i, vp_cell_i, arrV_store]
  congr 2
  funext q
  by_cases hq : q = (zI i).toNatClampNeg
  · subst hq
    simp [updV, upd]
  · simp [updV, upd, hq]
theorem J_zast (hC : jC g p l s m args meth c A cc own nL ret) {a n : Nat} {f : Int → Int} {i v : Int} (h0 : 0 ≤ i) (hn : i < n) (hz : n < 2147483648) (hv : v = 0 ∨ v = 1) (ho : ∀ H, Φ H → va_at g.1 jcl (a, jI (g.2.1 1) n f) H ∧ A a) (hset : ∀ H H1, Φ H → va_at g.1 jcl (a, jI (g.2.1 1) n (upI f i v)) H1 → H1.size = H.size → (∀ q, q ≠ a → H1[q]? = H[q]?) → Φ1 H1) (hdg : decode cc pc = .ok (.bastore, 1)) (kk : J p l e R s m args below meth c A Q Φ1 cells slots (pc + 1) L st) : J p l e R s m args below meth c A Q Φ cells slots pc L (.int (zI v) :: .int (zI i) :: .ref a :: st) := fun H locs ls hP hS hl => by
  have hi : zR i := ⟨by omega, by omega⟩
  have hin := zI_in h0 hn hz
  have hnv : vp_nar .boolean (zI v) = zI v := by rcases hv with rfl | rfl <;> decide
  refine W.zast (jC_exec hC) (jC_code hC) (ho H hP).1 (((jC_K hC).2 1 _ rfl).1 n (fun j => .int (zI (f (j : Int))))) (fun q => by cases q) (by show ¬ (zI i < 0 ∨ (arrV _ _ _).slots.size ≤ _); rw [arrV_size]; exact hin) rfl rfl hdg fun H1 e z oq => ?_
  refine kk H1 _ ls (hset H H1 hP ?_ z oq) (hS.put z oq (ho H hP).2) hl
  rw [← jI_up _ n f v h0 hi, ← hnv]
  show H1[a]? = some (vp_cell _ _)
  rw [e, vp_cell_i, vp_cell_i, arrV_store]
  congr 2
  funext q
  by_cases hq : q = (zI i).toNatClampNeg
  · subst hq
    simp [updV, upd, vp_nar]
    try rfl
  · simp [updV, upd, hq]
theorem J_alen (hC : jC g p l s m args meth c A cc own nL ret) {a : Nat} {d : ClassId} {x : vp_A} {t0 : Nat} {ty : FieldType} (ht : (jty g.2.1)[t0]? = some (d, ty)) (ho : ∀ H, Φ H → va_at g.1 jcl (a, .inl (d, x)) H) (hdg : decode cc pc = .ok (.arraylength, 1)) (kk : J p l e R s m args below meth c A Q Φ cells slots (pc + 1) L (.int (zI (x.1 : Int)) :: st)) : J p l e R s m args below meth c A Q Φ cells slots pc L (.ref a :: st) := fun H locs ls hP hS hl => by
  have hP1 : va_P g.1 jcl [(a, .inl (d, x))] H := fun k q hq => by
    cases k with
    | zero => cases hq; exact ho H hP
    | succ k => simp at hq
  exact va_alen (jC_exec hC) (jC_code hC) (jC_K hC) hP1 0 t0 rfl ht (zI_nat _) hdg (kk H locs ls hP hS hl)
theorem J_aald (hC : jC g p l s m args meth c A cc own nL ret) {a n : Nat} {f : Nat → Option Nat} {i : Int} (h0 : 0 ≤ i) (hn : i < n) (hz : n < 2147483648) (ho : ∀ H, Φ H → va_at g.1 jcl (a, jQ (g.2.1 3) n f) H) (hdg : decode cc pc = .ok (.aaload, 1)) (kk : J p l e R s m args below meth c A Q Φ cells slots (pc + 1) L (va_rf (f i.toNat) :: st)) : J p l e R s m args below meth c A Q Φ cells slots pc L (.int (zI i) :: .ref a :: st) := fun H locs ls hP hS hl => by
  have hi : zR i := ⟨by omega, by omega⟩
  have hP1 : va_P g.1 jcl [(a, jQ (g.2.1 3) n f)] H := fun k q hq => by
    cases k with
    | zero => cases hq; exact ho H hP
    | succ k => simp at hq
  have kk' := kk H locs ls hP hS hl
  rw [← zI_clamp hi] at kk'
  exact va_aldq (jC_exec hC) (jC_code hC) (jC_K hC) hP1 0 3 rfl rfl (zI_in h0 hn hz) hdg kk'
/-- an object of a known class goes into an array of Objects -/
theorem J_aast (hC : jC g p l s m args meth c A cc own nL ret) {a v n ci : Nat} {C : String} {T : u_T} {N : Nat} {vs : List Value} {f : Nat → Option Nat} {i : Int} (h0 : 0 ≤ i) (hn : i < n) (hz : n < 2147483648) (hc : jcl[ci]? = some (C, T, N)) (hcast : Cond.castable C "java/lang/Object" ∈ lw_tbl) (ho : ∀ H, Φ H → va_at g.1 jcl (a, jQ (g.2.1 3) n f) H ∧ A a ∧ va_at g.1 jcl (v, .inr (ci, vs)) H) (hset : ∀ H H1, Φ H → va_at g.1 jcl (a, jQ (g.2.1 3) n (va_up f i.toNat (some v))) H1 → H1.size = H.size → (∀ q, q ≠ a → H1[q]? = H[q]?) → Φ1 H1) (hdg : decode cc pc = .ok (.aastore, 1)) (kk : J p l e R s m args below meth c A Q Φ1 cells slots (pc + 1) L st) : J p l e R s m args below meth c A Q Φ cells slots pc L (.ref v :: .int (zI i) :: .ref a :: st) := fun H locs ls hP hS hl => by
  have hi : zR i := ⟨by omega, by omega⟩
  have hin := zI_in h0 hn hz
  have hlt : (zI i).toNatClampNeg < n := Nat.not_le.mp fun q => hin (Or.inr q)
  have hn0 : ¬ zI i < 0 := fun q => hin (Or.inl q)
  obtain ⟨p1, p2, r', hr', cellV, g1, g2, g3, -⟩ := ho H hP
  have hr : r' = (C, T, N) := Option.some.inj (hr'.symm.trans hc)
  subst hr
  have hcls := jK_class (jC_G hC) hc
  obtain ⟨kA, comp, k1, k2, k3, -⟩ := ((jC_K hC).2 3 _ rfl).2
  have hcs := GG_nw (jC_G hC) hcast rfl
  obtain ⟨c1, t1, e1, e2, e3⟩ := Cond.castable_spec hcs
  cases hcls.1.symm.trans e1
  cases k3.symm.trans e2
  obtain ⟨kT, hkT, -⟩ := Vm.findClass_spec k3
  obtain ⟨kC, hkC, -⟩ := hcls.2
  refine W.aast (jC_exec hC) (jC_code hC) p1 (fun q h => by cases h) (fun h => by cases h) k1 k2 rfl hkT ⟨hn0, by show _ < (arrV _ _ _).slots.size; rw [arrV_size]; exact hlt⟩ g1 (fun q h => by rw [g3] at h; cases h) (by rw [g2]; exact hkC) (by rw [g2]; exact e3) rfl rfl hdg fun H1 e z oq => ?_
  refine kk H1 _ ls (hset H H1 hP ?_ z oq) (hS.put z oq p2) hl
  show H1[a]? = some (vp_cell _ _)
  rw [e, vp_cell_q, vp_cell_q, arrV_store]
  congr 2
  funext q
  rw [zI_clamp hi]
  by_cases hq : q = i.toNat
  · subst hq
    simp [updV, va_up, va_rf]
  · simp [updV, va_up, hq]
theorem J_lald (hC : jC g p l s m args meth c A cc own nL ret) {a n : Nat} {f : Nat → Int64} {i : Int} (h0 : 0 ≤ i) (hn : i < n) (hz : n < 2147483648) (ho : ∀ H, Φ H → va_at g.1 jcl (a, jLo (g.2.1 2) n f) H) (hdg : decode cc pc = .ok (.laload, 1)) (kk : J p l e R s m args below meth c A Q Φ cells slots (pc + 1) L (.long (f i.toNat) :: st)) : J p l e R s m args below meth c A Q Φ cells slots pc L (.int (zI i) :: .ref a :: st) := fun H locs ls hP hS hl => by
  have hi : zR i := ⟨by omega, by omega⟩
  have hP1 : va_P g.1 jcl [(a, jLo (g.2.1 2) n f)] H := fun k q hq => by
    cases k with
    | zero => cases hq; exact ho H hP
    | succ k => simp at hq
  have kk' := kk H locs ls hP hS hl
  rw [← zI_clamp hi] at kk'
  exact va_lald (jC_exec hC) (jC_code hC) (jC_K hC) hP1 0 2 rfl rfl (zI_in h0 hn hz) hdg kk'
theorem J_last (hC : jC g p l s m args meth c A cc own nL ret) {a n : Nat} {f : Nat → Int64} {i : Int} {v : Int64} (h0 : 0 ≤ i) (hn : i < n) (hz : n < 2147483648) (ho : ∀ H, Φ H → va_at g.1 jcl (a, jLo (g.2.1 2) n f) H ∧ A a) (hset : ∀ H H1, Φ H → va_at g.1 jcl (a, jLo (g.2.1 2) n (vp_updL f i.toNat v)) H1 → H1.size = H.size → (∀ q, q ≠ a → H1[q]? = H[q]?) → Φ1 H1) (hdg : decode cc pc = .ok (.lastore, 1)) (kk : J p l e R s m args below meth c A Q Φ1 cells slots (pc + 1) L st) : J p l e R s m args below meth c A Q Φ cells slots pc L (.long v :: .int (zI i) :: .ref a :: st) := fun H locs ls hP hS hl => by
  have hi : zR i := ⟨by omega, by omega⟩
  have hin := zI_in h0 hn hz
  refine W.last (jC_exec hC) (jC_code hC) (ho H hP).1 (((jC_K hC).2 2 _ rfl).1 n (fun j => .long (f j))) (fun q => by cases q) (by show ¬ (zI i < 0 ∨ (arrV _ _ _).slots.size ≤ _); rw [arrV_size]; exact hin) rfl rfl hdg fun H1 e z oq => ?_
  refine kk H1 _ ls (hset H H1 hP ?_ z oq) (hS.put z oq (ho H hP).2) hl
  show H1[a]? = some (vp_cell _ _)
  rw [e, vp_cell_l, vp_cell_l, arrV_store]
  congr 2
  funext q
  rw [zI_clamp hi]
  by_cases hq : q = i.toNat
  · subst hq
    simp [updV, vp_updL]
  · simp [updV, vp_updL, hq]
theorem J_new (hC : jC g p l s m args meth c A cc own nL ret) {C : String} {T : u_T} {N ci index : Nat} {fs : List Value} {ty : Nat → FieldType} {Ψ : Nat → Heap → Prop} (hin : ∀ w ∈ u_ws C T N, w ∈ lw_all) (hty : ∀ k, k < N → parseFieldDescriptor (T k).2.2.1 = some (ty k)) (hcl : Cond.classLink own index C ∈ lw_all) (hinst : Cond.instantiable C N ∈ lw_all) (hini : Cond.initialized C ∈ lw_all) (hc : jcl[ci]? = some (C, T, N)) (hfs : ∀ j, j < N → defaultValue (ty j) = vp_V fs j) (hcells : cells + 1 ≤ R.cells) (hslots : slots + N ≤ R.slots) (hnew : ∀ H H1 q, Φ H → A q → H[q]? = none → va_at g.1 jcl (q, .inr (ci, fs)) H1 → (∀ x, x ≠ q → H1[x]? = H[x]?) → Ψ q H1) (hdg : decode cc pc = .ok (.new index, 3)) (kk : ∀ q : Nat, J p l e R s m args below meth c A Q (Ψ q) (cells + 1) (slots + N) (pc + 3) L (.ref q :: st)) : J p l e R s m args below meth c A Q Φ cells slots pc L st := fun H locs ls hP hS hl => by
  have hKn := (jC_K hC).1 ci _ hc
  refine W.newcK (jC_exec hC) (jC_code hC) (jC_own hC) (jC_ws hC _ hcl) (jC_ws hC _ hinst) (jC_ws hC _ hini) rfl hdg hcells hslots hKn.2.1 rfl fun H1 kC hkC e1 z1 o1 => ?_
  have hoq : ∀ x, x ≠ H.size → H1[x]? = H[x]? := fun x hx => by
    rcases Nat.lt_or_ge x H.size with h | h
    · exact o1 x h
    · rw [Array.getElem?_eq_none (by omega), Array.getElem?_eq_none h]
  exact kk H.size H1 locs ls (hnew H H1 H.size hP (jC_new hC _ hS.1) (Array.getElem?_eq_none (Nat.le_refl _)) ⟨_, hc, (u_born ty (jC_ws hC) hin hKn hkC e1 hty).to hfs⟩ hoq) ⟨Nat.le_trans hS.1 (by omega), fun x h1 h2 => (o1 x (Nat.lt_of_lt_of_le h1 hS.1)).trans (hS.2.1 x h1 h2), hS.2.2⟩ hl
theorem J_newi (hC : jC g p l s m args meth c A cc own nL ret) {n : Nat} {i : Int} {Ψ : Nat → Heap → Prop} (hw : Cond.arrayClass .int ∈ lw_all) (hi : i = (n : Int)) (hz : n < 10000) (hcells : cells + 1 ≤ R.cells) (hslots : slots + n ≤ R.slots) (hnew : ∀ H H1 q, Φ H → A q → H[q]? = none → va_at g.1 jcl (q, jI (g.2.1 0) n (fun _ => 0)) H1 → (∀ x, x ≠ q → H1[x]? = H[x]?) → Ψ q H1) (hdg : decode cc pc = .ok (.newarray .int, 2)) (kk : ∀ q : Nat, J p l e R s m args below meth c A Q (Ψ q) (cells + 1) (slots + n) (pc + 2) L (.ref q :: st)) : J p l e R s m args below meth c A Q Φ cells slots pc L (.int (zI i) :: st) := fun H locs ls hP hS hl => by
  subst hi
  have hr : zR (n : Int) := ⟨by omega, by omega⟩
  have hneg : ¬ zI (n : Int) < 0 := by
    rw [zI_0, zI_lt hr ⟨by omega, by omega⟩]; omega
  have hcl : (zI (n : Int)).toNatClampNeg = n := by rw [zI_clamp hr]; omega
  refine va_newaK (atype := .int) (jC_exec hC) (jC_code hC) (jC_ws hC _ hw) rfl hdg rfl hneg hcl (by simp [componentBytes, newarray.typeOf]; omega) hcells hslots rfl fun H1 cA e1 z1 o1 hAr hNm => ?_
  have hoq : ∀ x, x ≠ H.size → H1[x]? = H[x]? := fun x hx => by
    rcases Nat.lt_or_ge x H.size with h | h
    · exact o1 x h
    · rw [Array.getElem?_eq_none (by omega), Array.getElem?_eq_none h]
  have hd : cA = g.2.1 0 := Option.some.inj (hNm.symm.trans ((jC_K hC).2 0 _ rfl).2)
  subst hd
  exact kk H.size H1 locs ls (hnew H H1 H.size hP (jC_new hC _ hS.1) (Array.getElem?_eq_none (Nat.le_refl _)) e1 hoq) ⟨Nat.le_trans hS.1 (by omega), fun x h1 h2 => (o1 x (Nat.lt_of_lt_of_le h1 hS.1)).trans (hS.2.1 x h1 h2), hS.2.2⟩ hl
theorem J_newz (hC : jC g p l s m args meth c A cc own nL ret) {n : Nat} {i : Int} {Ψ : Nat → Heap → Prop} (hw : Cond.arrayClass .boolean ∈ lw_all) (hi : i = (n : Int)) (hz : n < 10000) (hcells : cells + 1 ≤ R.cells) (hslots : slots + n ≤ R.slots) (hnew : ∀ H H1 q, Φ H → A q → H[q]? = none → va_at g.1 jcl (q, jI (g.2.1 1) n (fun _ => 0)) H1 → (∀ x, x ≠ q → H1[x]? = H[x]?) → Ψ q H1) (hdg : decode cc pc = .ok (.newarray .boolean, 2)) (kk : ∀ q : Nat, J p l e R s m args below meth c A Q (Ψ q) (cells + 1) (slots + n) (pc + 2) L (.ref q :: st)) : J p l e R s m args below meth c A Q Φ cells slots pc L (.int (zI i) :: st) := fun H locs ls hP hS hl => by
  subst hi
  have hr : zR (n : Int) := ⟨by omega, by omega⟩
  have hneg : ¬ zI (n : Int) < 0 := by
    rw [zI_0, zI_lt hr ⟨by omega, by omega⟩]; omega
  have hcl : (zI (n : Int)).toNatClampNeg = n := by rw [zI_clamp hr]; omega
  refine va_newaK (atype := .boolean) (jC_exec hC) (jC_code hC) (jC_ws hC _ hw) rfl hdg rfl hneg hcl (by simp [componentBytes, newarray.typeOf]; omega) hcells hslots rfl fun H1 cA e1 z1 o1 hAr hNm => ?_
  have hoq : ∀ x, x ≠ H.size → H1[x]? = H[x]? := fun x hx => by
    rcases Nat.lt_or_ge x H.size with h | h
    · exact o1 x h
    · rw [Array.getElem?_eq_none (by omega), Array.getElem?_eq_none h]
  have hd : cA = g.2.1 1 := Option.some.inj (hNm.symm.trans ((jC_K hC).2 1 _ rfl).2)
  subst hd
  exact kk H.size H1 locs ls (hnew H H1 H.size hP (jC_new hC _ hS.1) (Array.getElem?_eq_none (Nat.le_refl _)) e1 hoq) ⟨Nat.le_trans hS.1 (by omega), fun x h1 h2 => (o1 x (Nat.lt_of_lt_of_le h1 hS.1)).trans (hS.2.1 x h1 h2), hS.2.2⟩ hl
theorem J_newl (hC : jC g p l s m args meth c A cc own nL ret) {n : Nat} {i : Int} {Ψ : Nat → Heap → Prop} (hw : Cond.arrayClass .long ∈ lw_all) (hi : i = (n : Int)) (hz : n < 10000) (hcells : cells + 1 ≤ R.cells) (hslots : slots + n ≤ R.slots) (hnew : ∀ H H1 q, Φ H → A q → H[q]? = none → va_at g.1 jcl (q, jLo (g.2.1 2) n (fun _ => 0)) H1 → (∀ x, x ≠ q → H1[x]? = H[x]?) → Ψ q H1) (hdg : decode cc pc = .ok (.newarray .long, 2)) (kk : ∀ q : Nat, J p l e R s m args below meth c A Q (Ψ q) (cells + 1) (slots + n) (pc + 2) L (.ref q :: st)) : J p l e R s m args below meth c A Q Φ cells slots pc L (.int (zI i) :: st) := fun H locs ls hP hS hl => by
  subst hi
  have hr : zR (n : Int) := ⟨by omega, by omega⟩
  have hneg : ¬ zI (n : Int) < 0 := by
    rw [zI_0, zI_lt hr ⟨by omega, by omega⟩]; omega
  have hcl : (zI (n : Int)).toNatClampNeg = n := by rw [zI_clamp hr]; omega
  refine va_newaK (atype := .long) (jC_exec hC) (jC_code hC) (jC_ws hC _ hw) rfl hdg rfl hneg hcl (by simp [componentBytes, newarray.typeOf]; omega) hcells hslots rfl fun H1 cA e1 z1 o1 hAr hNm => ?_
  have hoq : ∀ x, x ≠ H.size → H1[x]? = H[x]? := fun x hx => by
    rcases Nat.lt_or_ge x H.size with h | h
    · exact o1 x h
    · rw [Array.getElem?_eq_none (by omega), Array.getElem?_eq_none h]
  have hd : cA = g.2.1 2 := Option.some.inj (hNm.symm.trans ((jC_K hC).2 2 _ rfl).2)
  subst hd
  exact kk H.size H1 locs ls (hnew H H1 H.size hP (jC_new hC _ hS.1) (Array.getElem?_eq_none (Nat.le_refl _)) e1 hoq) ⟨Nat.le_trans hS.1 (by omega), fun x h1 h2 => (o1 x (Nat.lt_of_lt_of_le h1 hS.1)).trans (hS.2.1 x h1 h2), hS.2.2⟩ hl
theorem J_newq (hC : jC g p l s m args meth c A cc own nL ret) {n index : Nat} {i : Int} {Ψ : Nat → Heap → Prop} (hlink : Cond.classLink own index "java/lang/Object" ∈ lw_all) (hi : i = (n : Int)) (hz : n < 10000) (hcells : cells + 1 ≤ R.cells) (hslots : slots + n ≤ R.slots) (hnew : ∀ H H1 q, Φ H → A q → H[q]? = none → va_at g.1 jcl (q, jQ (g.2.1 3) n (fun _ => none)) H1 → (∀ x, x ≠ q → H1[x]? = H[x]?) → Ψ q H1) (hdg : decode cc pc = .ok (.anewarray index, 3)) (kk : ∀ q : Nat, J p l e R s m args below meth c A Q (Ψ q) (cells + 1) (slots + n) (pc + 3) L (.ref q :: st)) : J p l e R s m args below meth c A Q Φ cells slots pc L (.int (zI i) :: st) := fun H locs ls hP hS hl => by
  subst hi
  have hr : zR (n : Int) := ⟨by omega, by omega⟩
  have hneg : ¬ zI (n : Int) < 0 := by
    rw [zI_0, zI_lt hr ⟨by omega, by omega⟩]; omega
  have hcl : (zI (n : Int)).toNatClampNeg = n := by rw [zI_clamp hr]; omega
  have kk9 := kk
  refine W.anew (jC_exec hC) (jC_code hC) (jC_own hC) (jC_ws hC _ hlink) (va_AO.use (jC_G hC).2.2.2.2.2.1) rfl hdg rfl hneg (by rw [hcl]; omega) hcells (by rw [hcl]; exact hslots) fun cA kA comp f1 f2 f3 f4 => ?_
  rw [hcl]
  generalize hH1 : H.push ({ cls := cA, slots := Array.replicate n .null, vm := .none } : Cell) = H1
  have z1 : H1.size = H.size + 1 := by rw [← hH1, Array.size_push]
  have e1 : H1[H.size]? = some (arrV cA n (fun _ => .null)) := by rw [← hH1, Array.getElem?_push_size, ← arrV_new]
  have o1 : ∀ q : Nat, q < H.size → H1[q]? = H[q]? := fun q hq => by rw [← hH1, Array.getElem?_push, if_neg (Nat.ne_of_lt hq)]
  have hoq : ∀ x, x ≠ H.size → H1[x]? = H[x]? := fun x hx => by
    rcases Nat.lt_or_ge x H.size with h | h
    · exact o1 x h
    · rw [Array.getElem?_eq_none (by omega), Array.getElem?_eq_none h]
  obtain ⟨kA', comp', -, -, -, hnm⟩ := ((jC_K hC).2 3 _ rfl).2
  have hd : cA = g.2.1 3 := Option.some.inj (f1.symm.trans hnm)
  subst hd
  exact kk9 H.size H1 locs ls (hnew H H1 H.size hP (jC_new hC _ hS.1) (Array.getElem?_eq_none (Nat.le_refl _)) (by show H1[H.size]? = some (vp_cell _ _); rw [vp_cell_q]; exact e1) hoq) ⟨Nat.le_trans hS.1 (by omega), fun x h1 h2 => (o1 x (Nat.lt_of_lt_of_le h1 hS.1)).trans (hS.2.1 x h1 h2), hS.2.2⟩ hl
theorem J_objInit (hC : jC g p l s m args meth c A cc own nL ret) {a idx : Nat} (hlink : Cond.methodLink own idx objectInit ∈ lw_all) (hinst : Cond.instanceMethod objectInit ∈ lw_all) (hcode : Cond.code objectInit ⟨#[0xb1]⟩ 1 none ∈ lw_all) (hnL : L.length = nL) (hst : (st.map fun v => v.category).sum + 12 ≤ R.locals) (hf : 1 ≤ R.frames) (hdg : decode cc pc = .ok (.invokespecial idx, 3)) (kk : J p l e R s m args below meth c A Q Φ cells slots (pc + 3) L st) : J p l e R s m args below meth c A Q Φ cells slots pc L (.ref a :: st) := fun H locs ls hP hS hl => by
  refine W.objInit (jC_exec hC) (jC_code hC) (jC_own hC) (jC_ws hC _ hlink) (jC_ws hC _ hinst) (jC_ws hC _ hcode) rfl (by rw [jC_nL hC, ← hnL]; exact hl.1) rfl hdg hf ?_ ?_
  · show 2 * 0 + _ + 12 ≤ _
    omega
  · exact kk H locs ls hP hS hl
end JH
