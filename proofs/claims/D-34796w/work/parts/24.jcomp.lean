/-! THE COMPONENT's LAYER: its objects by kind and number, each with a row of ints.
kinds: 0 ProofPages; 1, 3, 5 its lists, 2, 4, 6 their arrays; 7 the breaker, 8 spots, 9 ahead, 10 best, 11 next; 12 a paragraph, 13 its list, 14 the list's array, 15 breaks; 16 a word, 17 its scores; 18 a mistake -/
set_option maxRecDepth 100000
abbrev cC : Type := Nat → Int → Int → Int
/-- addresses; which objects there are; all addresses are below -/
abbrev cS : Type := (Nat → Int → Nat) × (Nat → Int → Prop) × Nat
def elt (AD : Nat → Int → Nat) (k : Nat) (r : Int → Int) : Nat → Option Nat := fun j => if r (j : Int) < 0 then none else some (AD k (r (j : Int)))
def cE (g : jG) (AD : Nat → Int → Nat) (k : Nat) (i : Int) (r : Int → Int) : va_E := match k with
  | 0 => .inr (0, [.ref (AD 1 0), .ref (AD 3 0), .ref (AD 5 0), .ref (AD 7 0), .int (zI (r 4)), .int (zI (r 5))])
  | 1 => .inr (6, [.int (zI (r 0)), .ref (AD 2 0), .int (zI (r 2))])
  | 2 => jQ (g.2.1 3) 6 (elt AD 12 r)
  | 3 => .inr (6, [.int (zI (r 0)), .ref (AD 4 0), .int (zI (r 2))])
  | 4 => jQ (g.2.1 3) 60 (elt AD 16 r)
  | 5 => .inr (6, [.int (zI (r 0)), .ref (AD 6 0), .int (zI (r 2))])
  | 6 => jQ (g.2.1 3) 30 (elt AD 18 r)
  | 7 => .inr (1, [.ref (AD 8 0), .ref (AD 9 0), .ref (AD 10 0), .ref (AD 11 0), .int (zI (r 4)), .ref (AD 0 0)])
  | 8 => jI (g.2.1 0) 901 r
  | 9 => jI (g.2.1 0) 61 r
  | 10 => jI (g.2.1 0) 901 r
  | 11 => jI (g.2.1 0) 901 r
  | 12 => .inr (3, [.ref (AD 13 i), .ref (AD 15 i), .int (zI (r 2)), .int (zI (r 3)), .int (zI (r 4))])
  | 13 => .inr (6, [.int (zI (r 0)), .ref (if r 3 = 0 then g.2.2 else AD 14 i), .int (zI (r 2))])
  | 14 => jQ (g.2.1 3) (r (-1)).toNat (elt AD 16 r)
  | 15 => jI (g.2.1 0) 901 r
  | 16 => .inr (4, [.int (zI (r 0)), .ref (AD 12 (r 1)), .int (zI (r 2)), .int (zI (r 3)), .ref (AD 17 i)])
  | 17 => jI (g.2.1 0) (r (-1)).toNat r
  | _ => .inr (5, [.int (zI (r 0)), .ref (AD 16 (r 1)), .int (zI (r 2))])
def upC (C : cC) (k : Nat) (i j v : Int) : cC := fun k' i' j' => if k' = k ∧ i' = i ∧ j' = j then v else C k' i' j'
theorem upC_self (C : cC) (k : Nat) (i j v : Int) : upC C k i j v k i j = v := if_pos ⟨rfl, rfl, rfl⟩
theorem upC_k (C : cC) {k k' : Nat} (i j v : Int) (h : k' ≠ k) : upC C k i j v k' = C k' := funext fun _ => funext fun _ => if_neg fun q => h q.1
theorem upC_i (C : cC) (k : Nat) {k' : Nat} {i i' : Int} (j v : Int) (h : ¬ (k' = k ∧ i' = i)) : upC C k i j v k' i' = C k' i' := funext fun _ => if_neg fun q => h ⟨q.1, q.2.1⟩
theorem upC_j (C : cC) (k : Nat) (i : Int) {k' : Nat} {i' j j' : Int} (v : Int) (h : j' ≠ j) : upC C k i j v k' i' j' = C k' i' j' := if_neg fun q => h q.2.2
theorem upC_row (C : cC) (k : Nat) (i j v : Int) : upC C k i j v k i = upI (C k i) j v := funext fun x => by
  unfold upC upI
  by_cases h : x = j
  · rw [if_pos ⟨rfl, rfl, h⟩, if_pos h]
  · rw [if_neg (fun q => h q.2.2), if_neg h]
/-- the component's heap: its objects; they are apart, below the bound; the rest (cells T) is as Θ says -/
def cP (g : jG) (T : Nat → Prop) (Θ : Heap → Prop) (σ : cS) (C : cC) (A : Nat → Prop) (H : Heap) : Prop :=
  (∀ k i, σ.2.1 k i → va_at g.1 jcl (σ.1 k i, cE g σ.1 k i (C k i)) H ∧ A (σ.1 k i)) ∧ (∀ k i k' i', σ.2.1 k i → σ.2.1 k' i' → σ.1 k i = σ.1 k' i' → k = k' ∧ i = i') ∧ (∀ k i, σ.2.1 k i → σ.1 k i < σ.2.2) ∧ σ.2.2 ≤ H.size ∧ (∀ q, T q → q < σ.2.2 ∧ ∀ k i, σ.2.1 k i → q ≠ σ.1 k i) ∧ Θ H
def cT (T : Nat → Prop) (Θ : Heap → Prop) : Prop := ∀ H H1 : Heap, Θ H → (∀ q, T q → H1[q]? = H[q]?) → Θ H1
theorem cP_at {g : jG} {T : Nat → Prop} {Θ : Heap → Prop} {σ : cS} {C : cC} {A : Nat → Prop} {H : Heap} (h : cP g T Θ σ C A H) {k : Nat} {i : Int} (hl : σ.2.1 k i) {e : va_E} (he : cE g σ.1 k i (C k i) = e) : va_at g.1 jcl (σ.1 k i, e) H ∧ A (σ.1 k i) := by
  rw [← he]
  exact h.1 k i hl
theorem cP_set {g : jG} {T : Nat → Prop} {Θ : Heap → Prop} {σ : cS} {C C' : cC} {A : Nat → Prop} {H H1 : Heap} (hΘ : cT T Θ) (h : cP g T Θ σ C A H) {k : Nat} {i : Int} (hl : σ.2.1 k i) (hrow : ∀ k' i', ¬ (k' = k ∧ i' = i) → C' k' i' = C k' i') {e : va_E} (he : cE g σ.1 k i (C' k i) = e) (hx : va_at g.1 jcl (σ.1 k i, e) H1) (hz : H1.size = H.size) (oq : ∀ q, q ≠ σ.1 k i → H1[q]? = H[q]?) : cP g T Θ σ C' A H1 := by
  obtain ⟨h1, h2, h3, h4, h5, h6⟩ := h
  refine ⟨fun k' i' hl' => ?_, h2, h3, by rw [hz]; exact h4, h5, hΘ H H1 h6 (fun q hq => oq q ((h5 q hq).2 k i hl))⟩
  by_cases hz' : k' = k ∧ i' = i
  · obtain ⟨rfl, rfl⟩ := hz'
    rw [he]
    exact ⟨hx, (h1 k' i' hl').2⟩
  · rw [hrow k' i' hz']
    exact ⟨(h1 k' i' hl').1.kept (oq _ (fun q => hz' (h2 k' i' k i hl' hl q))), (h1 k' i' hl').2⟩
/-- a new object of the kind k, the number i, at q -/
def newS (σ : cS) (k : Nat) (i : Int) (q : Nat) : cS := (fun k' i' => if k' = k ∧ i' = i then q else σ.1 k' i', fun k' i' => σ.2.1 k' i' ∨ (k' = k ∧ i' = i), q + 1)
def newC (C : cC) (k : Nat) (i : Int) (r : Int → Int) : cC := fun k' i' => if k' = k ∧ i' = i then r else C k' i'
theorem newS_at (σ : cS) (k : Nat) (i : Int) (q : Nat) : (newS σ k i q).1 k i = q := if_pos ⟨rfl, rfl⟩
theorem newS_ne (σ : cS) {k k' : Nat} {i i' : Int} (q : Nat) (h : ¬ (k' = k ∧ i' = i)) : (newS σ k i q).1 k' i' = σ.1 k' i' := if_neg h
theorem newC_at (C : cC) (k : Nat) (i : Int) (r : Int → Int) : newC C k i r k i = r := if_pos ⟨rfl, rfl⟩
theorem newC_ne (C : cC) {k k' : Nat} {i i' : Int} (r : Int → Int) (h : ¬ (k' = k ∧ i' = i)) : newC C k i r k' i' = C k' i' := if_neg h
theorem cP_new {g : jG} {T : Nat → Prop} {Θ : Heap → Prop} {σ : cS} {C : cC} {A : Nat → Prop} {H H1 : Heap} {k : Nat} {i : Int} {q : Nat} {r : Int → Int} (hΘ : cT T Θ) (h : cP g T Θ σ C A H) (hn : ¬ σ.2.1 k i) (hq : q = H.size) (hA : A q) (hx : va_at g.1 jcl (q, cE g (newS σ k i q).1 k i r) H1) (oq : ∀ x, x ≠ q → H1[x]? = H[x]?) (hsame : ∀ k' i', σ.2.1 k' i' → cE g (newS σ k i q).1 k' i' (C k' i') = cE g σ.1 k' i' (C k' i')) : cP g T Θ (newS σ k i q) (newC C k i r) A H1 := by
  obtain ⟨h1, h2, h3, h4, h5, h6⟩ := h
  have hlt := hx.lt
  have old : ∀ k' i', σ.2.1 k' i' → ¬ (k' = k ∧ i' = i) := fun k' i' hl e => by obtain ⟨rfl, rfl⟩ := e; exact hn hl
  have hnb : σ.2.2 ≤ q := by rw [hq]; exact h4
  refine ⟨fun k' i' hl' => ?_, fun k1 i1 k2 i2 l1 l2 he => ?_, fun k' i' hl' => ?_, ?_, fun x hT => ⟨?_, fun k' i' hl' => ?_⟩, hΘ H H1 h6 (fun x hT => oq x (by have := (h5 x hT).1; omega))⟩
  · rcases hl' with hl' | e
    · have hne := old k' i' hl'
      rw [newS_ne σ q hne, newC_ne C r hne, hsame k' i' hl']
      exact ⟨(h1 k' i' hl').1.kept (oq _ (by have := h3 k' i' hl'; omega)), (h1 k' i' hl').2⟩
    · obtain ⟨rfl, rfl⟩ := e
      rw [newS_at, newC_at]
      exact ⟨hx, hA⟩
  · rcases l1 with l1 | e1 <;> rcases l2 with l2 | e2
    · rw [newS_ne σ q (old _ _ l1), newS_ne σ q (old _ _ l2)] at he
      exact h2 k1 i1 k2 i2 l1 l2 he
    · obtain ⟨rfl, rfl⟩ := e2
      rw [newS_ne σ q (old _ _ l1), newS_at] at he
      have := h3 k1 i1 l1
      omega
    · obtain ⟨rfl, rfl⟩ := e1
      rw [newS_ne σ q (old _ _ l2), newS_at] at he
      have := h3 k2 i2 l2
      omega
    · exact ⟨e1.1.trans e2.1.symm, e1.2.trans e2.2.symm⟩
  · rcases hl' with hl' | e
    · rw [newS_ne σ q (old _ _ hl')]
      have := h3 k' i' hl'
      show _ < q + 1
      omega
    · obtain ⟨rfl, rfl⟩ := e
      rw [newS_at]
      show q < q + 1
      omega
  · show q + 1 ≤ H1.size
    exact hlt
  · show x < q + 1
    have := (h5 x hT).1
    omega
  · rcases hl' with hl' | e
    · rw [newS_ne σ q (old _ _ hl')]
      exact (h5 x hT).2 k' i' hl'
    · obtain ⟨rfl, rfl⟩ := e
      rw [newS_at]
      have := (h5 x hT).1
      omega
/-- contracts of methods that make no objects -/
def cM (g : jG) (l : Launch) (y : MethodName) (ws : List Cond) (rm : Room) (as : List Value) (σ : cS) (C : cC) (P : Option Value → cC → Prop) : Prop :=
  ∀ (T : Nat → Prop) (Θ : Heap → Prop), cT T Θ → jM g l y ws rm as (cP g T Θ σ C) (fun A v H => ∃ C' : cC, P v C' ∧ cP g T Θ σ C' A H)
def cMX (g : jG) (l : Launch) (y : MethodName) (ws : List Cond) (rm : Room) (as : List Value) (σ : cS) (C : cC) (P : Option Value → cC → Prop) (X : String → cC → Prop) : Prop :=
  ∀ (T : Nat → Prop) (Θ : Heap → Prop), cT T Θ → jMX g l y ws rm as (cP g T Θ σ C) (fun A v H => ∃ C' : cC, P v C' ∧ cP g T Θ σ C' A H) (fun A E H => ∃ C' : cC, X E C' ∧ cP g T Θ σ C' A H)
abbrev cQ (g : jG) (T : Nat → Prop) (Θ : Heap → Prop) (σ : cS) (P : Option Value → cC → Prop) (below : List Frame) (args : Array Value) (s : State) (A : Nat → Prop) (mc ms : Nat) : State → Prop := MQ below (jR (fun v H => ∃ C' : cC, P v C' ∧ cP g T Θ σ C' A H) A) args s mc ms A
abbrev cQX (g : jG) (T : Nat → Prop) (Θ : Heap → Prop) (σ : cS) (P : Option Value → cC → Prop) (X : String → cC → Prop) (below : List Frame) (args : Array Value) (s : State) (A : Nat → Prop) (mc ms : Nat) : State → Prop := vx_MQ below (jR (fun v H => ∃ C' : cC, P v C' ∧ cP g T Θ σ C' A H) A) (jX (fun E H => ∃ C' : cC, X E C' ∧ cP g T Θ σ C' A H) A) args s mc ms A
theorem cM_of {g : jG} {l : Launch} {y : MethodName} {cc : ByteArray} {nL : Nat} {ret : Option FieldType} {rm : Room} {as : List Value} {σ : cS} {C : cC} {P : Option Value → cC → Prop} {L0 : jLs} (hnt : l.stackTraces = false) (hy : plainName y.cls = true) (hlen : (lg_sl as).length ≤ nL) (hcat : (lv_args 0 as).all (fun q => q.2.category == 1) = true) (hL : jmk nL (lv_args 0 as) = L0)
    (body : ∀ (T : Nat → Prop) (Θ : Heap → Prop), cT T Θ → ∀ (p : Program) (e : Env) (s : State) (m : MethodId) (args : Array Value) (below : List Frame) (meth : Method) (c : Code) (A : Nat → Prop) (Q : State → Prop), jC g p l s m args meth c A cc y.cls nL ret → Q = cQ g T Θ σ P below args s A rm.cells rm.slots → J p l e rm s m args below meth c A Q (cP g T Θ σ C A) 0 0 0 L0 []) : cM g l y (ws_ y cc nL ret) rm as σ C P := by
  intro T Θ hΘ
  refine jM_of hnt hy hlen hcat hL ?_
  intro p e s m args below meth c A hC _
  exact body T Θ hΘ p e s m args below meth c A _ hC rfl
theorem cMX_of {g : jG} {l : Launch} {y : MethodName} {cc : ByteArray} {nL : Nat} {ret : Option FieldType} {rm : Room} {as : List Value} {σ : cS} {C : cC} {P : Option Value → cC → Prop} {X : String → cC → Prop} {L0 : jLs} (hnt : l.stackTraces = false) (hy : plainName y.cls = true) (hlen : (lg_sl as).length ≤ nL) (hcat : (lv_args 0 as).all (fun q => q.2.category == 1) = true) (hL : jmk nL (lv_args 0 as) = L0)
    (body : ∀ (T : Nat → Prop) (Θ : Heap → Prop), cT T Θ → ∀ (p : Program) (e : Env) (s : State) (m : MethodId) (args : Array Value) (below : List Frame) (meth : Method) (c : Code) (A : Nat → Prop) (Q : State → Prop), jC g p l s m args meth c A cc y.cls nL ret → c.exceptionTable.toList = [] → Q = cQX g T Θ σ P X below args s A rm.cells rm.slots → J p l e rm s m args below meth c A Q (cP g T Θ σ C A) 0 0 0 L0 []) : cMX g l y (ws_ y cc nL ret) rm as σ C P X := by
  intro T Θ hΘ
  refine jMX_of hnt hy hlen hcat hL ?_
  intro p e s m args below meth c A hC hT
  exact body T Θ hΘ p e s m args below meth c A _ hC hT rfl
section JCOMP
variable {g : jG} {p : Program} {l : Launch} {e : Env} {R : Room} {s : State} {m : MethodId} {args : Array Value} {below : List Frame} {meth : Method} {c : Code} {A : Nat → Prop} {Q : State → Prop} {cells slots pc : Nat} {L : jLs} {st : List Value} {cc : ByteArray} {own : String} {nL : Nat} {ret : Option FieldType} {T : Nat → Prop} {Θ : Heap → Prop} {σ : cS} {C : cC}

theorem Jc_get (hC : jC g p l s m args meth c A cc own nL ret) {ref Cn : String} {Tb : u_T} {N ci index : Nat} {fs : List Value} {v : Value} (kd : Nat) (i : Int) (k : Nat) (hin : ∀ w ∈ u_ws Cn Tb N, w ∈ lw_all) (hc : jcl[ci]? = some (Cn, Tb, N)) (hk : k < N) (hlink : Cond.fieldLink own index ref (Tb k).2.1 (Tb k).2.2.1 ∈ lw_all) (hsame : ref = (Tb k).1) (hl : σ.2.1 kd i) (he : cE g σ.1 kd i (C kd i) = .inr (ci, fs)) (hv : fs[k]? = some v) (hdg : decode cc pc = .ok (.getfield index, 3)) (kk : J p l e R s m args below meth c A Q (cP g T Θ σ C A) cells slots (pc + 3) L (v :: st)) : J p l e R s m args below meth c A Q (cP g T Θ σ C A) cells slots pc L (.ref (σ.1 kd i) :: st) :=
  J_get hC (ci := ci) hin hc hk hlink (fun _ h => by rw [hsame]; exact h) (fun H h => (cP_at h hl he).1) hv hdg kk
theorem Jc_getN (hC : jC g p l s m args meth c A cc own nL ret) {ref Cn : String} {Tb : u_T} {N ci index : Nat} {fs : List Value} {v : Value} (kd : Nat) (i : Int) (k : Nat) (hin : ∀ w ∈ u_ws Cn Tb N, w ∈ lw_all) (hc : jcl[ci]? = some (Cn, Tb, N)) (hk : k < N) {host : String} (hlink : Cond.fieldLinkNest own index ref (Tb k).2.1 (Tb k).2.2.1 host ∈ lw_tbl) (hsame : ref = (Tb k).1) (hl : σ.2.1 kd i) (he : cE g σ.1 kd i (C kd i) = .inr (ci, fs)) (hv : fs[k]? = some v) (hdg : decode cc pc = .ok (.getfield index, 3)) (kk : J p l e R s m args below meth c A Q (cP g T Θ σ C A) cells slots (pc + 3) L (v :: st)) : J p l e R s m args below meth c A Q (cP g T Θ σ C A) cells slots pc L (.ref (σ.1 kd i) :: st) :=
  J_getN hC (ci := ci) hin hc hk hlink (fun _ h => by rw [hsame]; exact h) (fun H h => (cP_at h hl he).1) hv hdg kk
theorem Jc_put (hC : jC g p l s m args meth c A cc own nL ret) (hΘ : cT T Θ) {ref Cn : String} {Tb : u_T} {N ci index : Nat} {fs : List Value} {v : Int} {ty : FieldType} {ty0 : Nat → FieldType} (kd : Nat) (i : Int) (k : Nat) {j : Int} (hj : j = (k : Int)) (hin : ∀ w ∈ u_ws Cn Tb N, w ∈ lw_all) (hty : ∀ k, k < N → parseFieldDescriptor (Tb k).2.2.1 = some (ty0 k)) (hnm : ∀ a, a < N → ∀ b, b < N → a ≠ b → (Tb a).2.1 ≠ (Tb b).2.1) (hc : jcl[ci]? = some (Cn, Tb, N)) (hk : k < N) (hlink : Cond.fieldLink own index ref (Tb k).2.1 (Tb k).2.2.1 ∈ lw_all) (hsame : ref = (Tb k).1) (hfin : (Tb k).2.2.2 = false) (hd : ty0 k = ty) (hn : narrow ty (.int (zI v)) = .int (zI v)) (hfit : fits ty (.int (zI v)) = true) (hl0 : k < fs.length) (hl : σ.2.1 kd i) (he : cE g σ.1 kd i (C kd i) = .inr (ci, fs)) (he2 : cE g σ.1 kd i (upI (C kd i) j v) = .inr (ci, fs.set k (.int (zI v)))) (hdg : decode cc pc = .ok (.putfield index, 3)) (kk : J p l e R s m args below meth c A Q (cP g T Θ σ (upC C kd i j v) A) cells slots (pc + 3) L st) : J p l e R s m args below meth c A Q (cP g T Θ σ C A) cells slots pc L (.int (zI v) :: .ref (σ.1 kd i) :: st) :=
  J_put hC (ci := ci) (ty := ty) hin hty hnm hc hk hlink (fun _ h => by rw [hsame]; exact h) hfin hd hn hfit hl0 (fun H h => cP_at h hl he) (fun H H1 h hx hz oq => cP_set hΘ h hl (fun k' i' hne => upC_i C kd j v hne) (by rw [upC_row]; exact he2) hx hz oq) hdg kk
theorem Jc_putN (hC : jC g p l s m args meth c A cc own nL ret) (hΘ : cT T Θ) {ref Cn : String} {Tb : u_T} {N ci index : Nat} {fs : List Value} {v : Int} {ty : FieldType} {ty0 : Nat → FieldType} (kd : Nat) (i : Int) (k : Nat) {j : Int} (hj : j = (k : Int)) (hin : ∀ w ∈ u_ws Cn Tb N, w ∈ lw_all) (hty : ∀ k, k < N → parseFieldDescriptor (Tb k).2.2.1 = some (ty0 k)) (hnm : ∀ a, a < N → ∀ b, b < N → a ≠ b → (Tb a).2.1 ≠ (Tb b).2.1) (hc : jcl[ci]? = some (Cn, Tb, N)) (hk : k < N) {host : String} (hlink : Cond.fieldLinkNest own index ref (Tb k).2.1 (Tb k).2.2.1 host ∈ lw_tbl) (hsame : ref = (Tb k).1) (hfin : (Tb k).2.2.2 = false) (hd : ty0 k = ty) (hn : narrow ty (.int (zI v)) = .int (zI v)) (hfit : fits ty (.int (zI v)) = true) (hl0 : k < fs.length) (hl : σ.2.1 kd i) (he : cE g σ.1 kd i (C kd i) = .inr (ci, fs)) (he2 : cE g σ.1 kd i (upI (C kd i) j v) = .inr (ci, fs.set k (.int (zI v)))) (hdg : decode cc pc = .ok (.putfield index, 3)) (kk : J p l e R s m args below meth c A Q (cP g T Θ σ (upC C kd i j v) A) cells slots (pc + 3) L st) : J p l e R s m args below meth c A Q (cP g T Θ σ C A) cells slots pc L (.int (zI v) :: .ref (σ.1 kd i) :: st) :=
  J_putN hC (ci := ci) (ty := ty) hin hty hnm hc hk hlink (fun _ h => by rw [hsame]; exact h) hfin hd hn hfit hl0 (fun H h => cP_at h hl he) (fun H H1 h hx hz oq => cP_set hΘ h hl (fun k' i' hne => upC_i C kd j v hne) (by rw [upC_row]; exact he2) hx hz oq) hdg kk
theorem Jc_iald (hC : jC g p l s m args meth c A cc own nL ret) (kd : Nat) (i : Int) {n : Nat} {x v : Int} (hv : C kd i x = v) (hl : σ.2.1 kd i) (he : cE g σ.1 kd i (C kd i) = jI (g.2.1 0) n (C kd i)) (h0 : 0 ≤ x) (hn : x < n) (hz : n < 2147483648) (hdg : decode cc pc = .ok (.iaload, 1)) (kk : J p l e R s m args below meth c A Q (cP g T Θ σ C A) cells slots (pc + 1) L (.int (zI v) :: st)) : J p l e R s m args below meth c A Q (cP g T Θ σ C A) cells slots pc L (.int (zI x) :: .ref (σ.1 kd i) :: st) := by
  subst hv
  exact J_iald hC h0 hn hz (fun H h => (cP_at h hl he).1) hdg kk
theorem Jc_iast (hC : jC g p l s m args meth c A cc own nL ret) (hΘ : cT T Θ) (kd : Nat) (i : Int) {n : Nat} {x v : Int} (hl : σ.2.1 kd i) (he : cE g σ.1 kd i (C kd i) = jI (g.2.1 0) n (C kd i)) (he2 : cE g σ.1 kd i (upI (C kd i) x v) = jI (g.2.1 0) n (upI (C kd i) x v)) (h0 : 0 ≤ x) (hn : x < n) (hz : n < 2147483648) (hdg : decode cc pc = .ok (.iastore, 1)) (kk : J p l e R s m args below meth c A Q (cP g T Θ σ (upC C kd i x v) A) cells slots (pc + 1) L st) : J p l e R s m args below meth c A Q (cP g T Θ σ C A) cells slots pc L (.int (zI v) :: .int (zI x) :: .ref (σ.1 kd i) :: st) :=
  J_iast hC h0 hn hz (fun H h => cP_at h hl he) (fun H H1 h hx hz oq => cP_set hΘ h hl (fun k' i' hne => upC_i C kd x v hne) (by rw [upC_row]; exact he2) hx hz oq) hdg kk
theorem Jc_iret {x : Int} {P : Option Value → cC → Prop} {mc ms : Nat} (hC : jC g p l s m args meth c A cc own nL (some .int)) (hQ : Q = cQ g T Θ σ P below args s A mc ms) (hc : cells ≤ mc) (hs : slots ≤ ms) (hp : P (some (.int (zI x))) C) (hdg : decode cc pc = .ok (.ireturn, 1)) : J p l e R s m args below meth c A Q (cP g T Θ σ C A) cells slots pc L [.int (zI x)] := by
  subst hQ
  exact J_iret hC hc hs (fun H hH => ⟨C, hp, hH⟩) hdg
theorem Jc_iretX {x : Int} {P : Option Value → cC → Prop} {X : String → cC → Prop} {mc ms : Nat} (hC : jC g p l s m args meth c A cc own nL (some .int)) (hQ : Q = cQX g T Θ σ P X below args s A mc ms) (hc : cells ≤ mc) (hs : slots ≤ ms) (hp : P (some (.int (zI x))) C) (hdg : decode cc pc = .ok (.ireturn, 1)) : J p l e R s m args below meth c A Q (cP g T Θ σ C A) cells slots pc L [.int (zI x)] := by
  subst hQ
  exact J_iretX hC hc hs (fun H hH => ⟨C, hp, hH⟩) hdg
theorem Jc_zret {x : Int} {P : Option Value → cC → Prop} {mc ms : Nat} (hC : jC g p l s m args meth c A cc own nL (some .boolean)) (hQ : Q = cQ g T Θ σ P below args s A mc ms) (hx : x = 0 ∨ x = 1) (hc : cells ≤ mc) (hs : slots ≤ ms) (hp : P (some (.int (zI x))) C) (hdg : decode cc pc = .ok (.ireturn, 1)) : J p l e R s m args below meth c A Q (cP g T Θ σ C A) cells slots pc L [.int (zI x)] := by
  subst hQ
  exact J_zret hC hx hc hs (fun H hH => ⟨C, hp, hH⟩) hdg
theorem Jc_zretX {x : Int} {P : Option Value → cC → Prop} {X : String → cC → Prop} {mc ms : Nat} (hC : jC g p l s m args meth c A cc own nL (some .boolean)) (hQ : Q = cQX g T Θ σ P X below args s A mc ms) (hx : x = 0 ∨ x = 1) (hc : cells ≤ mc) (hs : slots ≤ ms) (hp : P (some (.int (zI x))) C) (hdg : decode cc pc = .ok (.ireturn, 1)) : J p l e R s m args below meth c A Q (cP g T Θ σ C A) cells slots pc L [.int (zI x)] := by
  subst hQ
  exact J_zretX hC hx hc hs (fun H hH => ⟨C, hp, hH⟩) hdg
theorem Jc_aret {x : Nat} {rt : FieldType} {P : Option Value → cC → Prop} {mc ms : Nat} (hC : jC g p l s m args meth c A cc own nL (some rt)) (hQ : Q = cQ g T Θ σ P below args s A mc ms) (hrt : (∃ n, rt = .object n) ∨ ∃ t, rt = .array t) (hc : cells ≤ mc) (hs : slots ≤ ms) (hp : P (some (.ref x)) C) (hdg : decode cc pc = .ok (.areturn, 1)) : J p l e R s m args below meth c A Q (cP g T Θ σ C A) cells slots pc L [.ref x] := by
  subst hQ
  exact J_aret hC hrt (Or.inr ⟨_, rfl⟩) hc hs (fun H hH => ⟨C, hp, hH⟩) hdg
theorem Jc_aretX {x : Nat} {rt : FieldType} {P : Option Value → cC → Prop} {X : String → cC → Prop} {mc ms : Nat} (hC : jC g p l s m args meth c A cc own nL (some rt)) (hQ : Q = cQX g T Θ σ P X below args s A mc ms) (hrt : (∃ n, rt = .object n) ∨ ∃ t, rt = .array t) (hc : cells ≤ mc) (hs : slots ≤ ms) (hp : P (some (.ref x)) C) (hdg : decode cc pc = .ok (.areturn, 1)) : J p l e R s m args below meth c A Q (cP g T Θ σ C A) cells slots pc L [.ref x] := by
  subst hQ
  exact J_aretX hC hrt (Or.inr ⟨_, rfl⟩) hc hs (fun H hH => ⟨C, hp, hH⟩) hdg
theorem Jc_vret  {P : Option Value → cC → Prop} {mc ms : Nat} (hC : jC g p l s m args meth c A cc own nL none) (hQ : Q = cQ g T Θ σ P below args s A mc ms) (hc : cells ≤ mc) (hs : slots ≤ ms) (hp : P none C) (hdg : decode cc pc = .ok (.return_, 1)) : J p l e R s m args below meth c A Q (cP g T Θ σ C A) cells slots pc L [] := by
  subst hQ
  exact J_vret hC hc hs (fun H hH => ⟨C, hp, hH⟩) hdg
theorem Jc_vretX  {P : Option Value → cC → Prop} {X : String → cC → Prop} {mc ms : Nat} (hC : jC g p l s m args meth c A cc own nL none) (hQ : Q = cQX g T Θ σ P X below args s A mc ms) (hc : cells ≤ mc) (hs : slots ≤ ms) (hp : P none C) (hdg : decode cc pc = .ok (.return_, 1)) : J p l e R s m args below meth c A Q (cP g T Θ σ C A) cells slots pc L [] := by
  subst hQ
  exact J_vretX hC hc hs (fun H hH => ⟨C, hp, hH⟩) hdg
theorem Jc_out (hC : jC g p l s m args meth c A cc own nL ret) {E : String} {P : Option Value → cC → Prop} {X : String → cC → Prop} {mc ms : Nat} (ht : c.exceptionTable.toList = []) (hQ : Q = cQX g T Θ σ P X below args s A mc ms) (hc : cells ≤ mc) (hs : slots ≤ ms) (hp : X E C) : JX p l e R s m args below meth c A Q E (cP g T Θ σ C A) cells slots pc L st := by
  subst hQ
  exact JX_out hC ht hc hs (fun H hH => ⟨C, hp, hH⟩)
theorem JX_ex {α : Type} {E : String} {Pp : α → Prop} {Φ : α → Heap → Prop} (k : ∀ a : α, Pp a → JX p l e R s m args below meth c A Q E (Φ a) cells slots pc L st) : JX p l e R s m args below meth c A Q E (fun H => ∃ a, Pp a ∧ Φ a H) cells slots pc L st := fun H locs ls q9 ce hP hS hl h1 h2 h3 => by
  obtain ⟨a, ha, hb⟩ := hP
  exact k a ha H locs ls q9 ce hb hS hl h1 h2 h3
theorem J_exP {α : Type} {Pp : α → Prop} {Φ : α → Heap → Prop} (k : ∀ a : α, Pp a → J p l e R s m args below meth c A Q (Φ a) cells slots pc L st) : J p l e R s m args below meth c A Q (fun H => ∃ a, Pp a ∧ Φ a H) cells slots pc L st := fun H locs ls hP hS hl => by
  obtain ⟨a, ha, hb⟩ := hP
  exact k a ha H locs ls hb hS hl
theorem Jc_callV (hC : jC g p l s m args meth c A cc own nL ret) (hΘ : cT T Θ) {y : MethodName} {bytes : ByteArray} {maxL index : Nat} {n : Nat} {rt : Option FieldType} {rm' : Room} {as' As stk : List Value} {P : Option Value → cC → Prop} {Cn : String} {Tb : u_T} {N ci : Nat} {fs : List Value} (kd : Nat) (i : Int) (hc : jcl[ci]? = some (Cn, Tb, N)) (hl : σ.2.1 kd i) (he : cE g σ.1 kd i (C kd i) = .inr (ci, fs)) (hM : cM g l y (ws_ y bytes maxL rt) rm' as' σ C P) (hT : GoodIn lw_all (wsV own index Cn y (ws_ y bytes maxL rt))) (hd : y.cls = Cn ∧ y.cls ≠ "java/lang/invoke/MethodHandle" ∧ y.cls ≠ "java/lang/invoke/VarHandle" ∧ (parseMethodDescriptor y.desc).map (fun d => d.parameters.length) = some n) (hR : rm'.frames + 1 ≤ R.frames ∧ 8 + (maxL + 11) + rm'.locals ≤ R.locals) (hf : cells + rm'.cells ≤ R.cells ∧ slots + rm'.slots ≤ R.slots) (has : as' = .ref (σ.1 kd i) :: As) (hstk : stk = As.reverse ++ .ref (σ.1 kd i) :: st) (hn : As.length = n) (hnL : L.length = nL) (hW : (st.map fun v => v.category).sum ≤ 8) (hdg : decode cc pc = .ok (.invokevirtual index, 3)) (kk : ∀ (v : Option Value) (C' : cC), P v C' → J p l e R s m args below meth c A Q (cP g T Θ σ C' A) (cells + rm'.cells) (slots + rm'.slots) (pc + 3) L (v.toList ++ st)) : J p l e R s m args below meth c A Q (cP g T Θ σ C A) cells slots pc L stk :=
  J_callV hC (hM T Θ hΘ) hT hd hR hf has hstk hn hnL hW hc (fun H h => (cP_at h hl he).1) (fun H h => h) hdg (fun v => J_exP (fun C9 hp => kk v C9 hp))
theorem Jc_callVX (hC : jC g p l s m args meth c A cc own nL ret) (hΘ : cT T Θ) {y : MethodName} {bytes : ByteArray} {maxL index : Nat} {n : Nat} {rt : Option FieldType} {rm' : Room} {as' As stk : List Value} {P : Option Value → cC → Prop} {X : String → cC → Prop} {Cn : String} {Tb : u_T} {N ci : Nat} {fs : List Value} (kd : Nat) (i : Int) (hc : jcl[ci]? = some (Cn, Tb, N)) (hl : σ.2.1 kd i) (he : cE g σ.1 kd i (C kd i) = .inr (ci, fs)) (hM : cMX g l y (ws_ y bytes maxL rt) rm' as' σ C P X) (hT : GoodIn lw_all (wsV own index Cn y (ws_ y bytes maxL rt))) (hd : y.cls = Cn ∧ y.cls ≠ "java/lang/invoke/MethodHandle" ∧ y.cls ≠ "java/lang/invoke/VarHandle" ∧ (parseMethodDescriptor y.desc).map (fun d => d.parameters.length) = some n) (hR : rm'.frames + 1 ≤ R.frames ∧ 8 + (maxL + 11) + rm'.locals ≤ R.locals) (hf : cells + rm'.cells ≤ R.cells ∧ slots + rm'.slots ≤ R.slots) (has : as' = .ref (σ.1 kd i) :: As) (hstk : stk = As.reverse ++ .ref (σ.1 kd i) :: st) (hn : As.length = n) (hnL : L.length = nL) (hW : (st.map fun v => v.category).sum ≤ 8) (hdg : decode cc pc = .ok (.invokevirtual index, 3)) (kx : ∀ (E : String) (C' : cC), X E C' → JX p l e R s m args below meth c A Q E (cP g T Θ σ C' A) (cells + rm'.cells) (slots + rm'.slots) pc L st) (kk : ∀ (v : Option Value) (C' : cC), P v C' → J p l e R s m args below meth c A Q (cP g T Θ σ C' A) (cells + rm'.cells) (slots + rm'.slots) (pc + 3) L (v.toList ++ st)) : J p l e R s m args below meth c A Q (cP g T Θ σ C A) cells slots pc L stk :=
  J_callVX hC (hM T Θ hΘ) hT hd hR hf has hstk hn hnL hW hc (fun H h => (cP_at h hl he).1) (fun H h => h) hdg (fun E => JX_ex (fun C9 hx => kx E C9 hx)) (fun v => J_exP (fun C9 hp => kk v C9 hp))
theorem Jc_callS (hC : jC g p l s m args meth c A cc own nL ret) (hΘ : cT T Θ) {y : MethodName} {bytes : ByteArray} {maxL index : Nat} {n : Nat} {rt : Option FieldType} {rm' : Room} {as' As stk : List Value} {P : Option Value → cC → Prop} (hM : cM g l y (ws_ y bytes maxL rt) rm' as' σ C P) (hT : GoodIn lw_all (va_wsS own index y (ws_ y bytes maxL rt))) (hd : y.cls ≠ "java/lang/invoke/MethodHandle" ∧ y.cls ≠ "java/lang/invoke/VarHandle" ∧ (parseMethodDescriptor y.desc).map (fun d => d.parameters.length) = some n) (hR : rm'.frames + 1 ≤ R.frames ∧ 8 + (maxL + 11) + rm'.locals ≤ R.locals) (hf : cells + rm'.cells ≤ R.cells ∧ slots + rm'.slots ≤ R.slots) (has : as' = As) (hstk : stk = As.reverse ++ st) (hn : As.length = n) (hnL : L.length = nL) (hW : (st.map fun v => v.category).sum ≤ 8) (hdg : decode cc pc = .ok (.invokestatic index, 3)) (kk : ∀ (v : Option Value) (C' : cC), P v C' → J p l e R s m args below meth c A Q (cP g T Θ σ C' A) (cells + rm'.cells) (slots + rm'.slots) (pc + 3) L (v.toList ++ st)) : J p l e R s m args below meth c A Q (cP g T Θ σ C A) cells slots pc L stk :=
  J_callS hC (hM T Θ hΘ) hT hd hR hf has hstk hn hnL hW (fun H h => h) hdg (fun v => J_exP (fun C9 hp => kk v C9 hp))
theorem Jc_callSX (hC : jC g p l s m args meth c A cc own nL ret) (hΘ : cT T Θ) {y : MethodName} {bytes : ByteArray} {maxL index : Nat} {n : Nat} {rt : Option FieldType} {rm' : Room} {as' As stk : List Value} {P : Option Value → cC → Prop} {X : String → cC → Prop} (hM : cMX g l y (ws_ y bytes maxL rt) rm' as' σ C P X) (hT : GoodIn lw_all (va_wsS own index y (ws_ y bytes maxL rt))) (hd : y.cls ≠ "java/lang/invoke/MethodHandle" ∧ y.cls ≠ "java/lang/invoke/VarHandle" ∧ (parseMethodDescriptor y.desc).map (fun d => d.parameters.length) = some n) (hR : rm'.frames + 1 ≤ R.frames ∧ 8 + (maxL + 11) + rm'.locals ≤ R.locals) (hf : cells + rm'.cells ≤ R.cells ∧ slots + rm'.slots ≤ R.slots) (has : as' = As) (hstk : stk = As.reverse ++ st) (hn : As.length = n) (hnL : L.length = nL) (hW : (st.map fun v => v.category).sum ≤ 8) (hdg : decode cc pc = .ok (.invokestatic index, 3)) (kx : ∀ (E : String) (C' : cC), X E C' → JX p l e R s m args below meth c A Q E (cP g T Θ σ C' A) (cells + rm'.cells) (slots + rm'.slots) pc L st) (kk : ∀ (v : Option Value) (C' : cC), P v C' → J p l e R s m args below meth c A Q (cP g T Θ σ C' A) (cells + rm'.cells) (slots + rm'.slots) (pc + 3) L (v.toList ++ st)) : J p l e R s m args below meth c A Q (cP g T Θ σ C A) cells slots pc L stk :=
  J_callSX hC (hM T Θ hΘ) hT hd hR hf has hstk hn hnL hW (fun H h => h) hdg (fun E => JX_ex (fun C9 hx => kx E C9 hx)) (fun v => J_exP (fun C9 hp => kk v C9 hp))
theorem Jc_callF (hC : jC g p l s m args meth c A cc own nL ret) (hΘ : cT T Θ) {y : MethodName} {bytes : ByteArray} {maxL index : Nat} {n : Nat} {rt : Option FieldType} {rm' : Room} {as' As stk : List Value} {P : Option Value → cC → Prop} {Cn : String} {Tb : u_T} {N ci : Nat} {fs : List Value} {xm : MethodName} {count : Nat} (kd : Nat) (i : Int) (hc : jcl[ci]? = some (Cn, Tb, N)) (hl : σ.2.1 kd i) (he : cE g σ.1 kd i (C kd i) = .inr (ci, fs)) (hM : cM g l y (ws_ y bytes maxL rt) rm' as' σ C P) (hFw : va_Fw Cn xm y s) (hT : GoodIn lw_all (va_wsF own index Cn xm y (ws_ y bytes maxL rt))) (hd : xm.cls ≠ "java/lang/invoke/MethodHandle" ∧ xm.cls ≠ "java/lang/invoke/VarHandle" ∧ (parseMethodDescriptor xm.desc).map (fun d => d.parameters.length) = some n) (hR : rm'.frames + 1 ≤ R.frames ∧ 8 + (maxL + 11) + rm'.locals ≤ R.locals) (hf : cells + rm'.cells ≤ R.cells ∧ slots + rm'.slots ≤ R.slots) (has : as' = .ref (σ.1 kd i) :: As) (hstk : stk = As.reverse ++ .ref (σ.1 kd i) :: st) (hn : As.length = n) (hnL : L.length = nL) (hW : (st.map fun v => v.category).sum ≤ 8) (hdg : decode cc pc = .ok (.invokeinterface index count, 5)) (kk : ∀ (v : Option Value) (C' : cC), P v C' → J p l e R s m args below meth c A Q (cP g T Θ σ C' A) (cells + rm'.cells) (slots + rm'.slots) (pc + 5) L (v.toList ++ st)) : J p l e R s m args below meth c A Q (cP g T Θ σ C A) cells slots pc L stk :=
  J_callF hC (hM T Θ hΘ) hFw hT hd hR hf has hstk hn hnL hW hc (fun H h => (cP_at h hl he).1) (fun H h => h) hdg (fun v => J_exP (fun C9 hp => kk v C9 hp))
theorem Jc_callFX (hC : jC g p l s m args meth c A cc own nL ret) (hΘ : cT T Θ) {y : MethodName} {bytes : ByteArray} {maxL index : Nat} {n : Nat} {rt : Option FieldType} {rm' : Room} {as' As stk : List Value} {P : Option Value → cC → Prop} {X : String → cC → Prop} {Cn : String} {Tb : u_T} {N ci : Nat} {fs : List Value} {xm : MethodName} {count : Nat} (kd : Nat) (i : Int) (hc : jcl[ci]? = some (Cn, Tb, N)) (hl : σ.2.1 kd i) (he : cE g σ.1 kd i (C kd i) = .inr (ci, fs)) (hM : cMX g l y (ws_ y bytes maxL rt) rm' as' σ C P X) (hFw : va_Fw Cn xm y s) (hT : GoodIn lw_all (va_wsF own index Cn xm y (ws_ y bytes maxL rt))) (hd : xm.cls ≠ "java/lang/invoke/MethodHandle" ∧ xm.cls ≠ "java/lang/invoke/VarHandle" ∧ (parseMethodDescriptor xm.desc).map (fun d => d.parameters.length) = some n) (hR : rm'.frames + 1 ≤ R.frames ∧ 8 + (maxL + 11) + rm'.locals ≤ R.locals) (hf : cells + rm'.cells ≤ R.cells ∧ slots + rm'.slots ≤ R.slots) (has : as' = .ref (σ.1 kd i) :: As) (hstk : stk = As.reverse ++ .ref (σ.1 kd i) :: st) (hn : As.length = n) (hnL : L.length = nL) (hW : (st.map fun v => v.category).sum ≤ 8) (hdg : decode cc pc = .ok (.invokeinterface index count, 5)) (kx : ∀ (E : String) (C' : cC), X E C' → JX p l e R s m args below meth c A Q E (cP g T Θ σ C' A) (cells + rm'.cells) (slots + rm'.slots) pc L st) (kk : ∀ (v : Option Value) (C' : cC), P v C' → J p l e R s m args below meth c A Q (cP g T Θ σ C' A) (cells + rm'.cells) (slots + rm'.slots) (pc + 5) L (v.toList ++ st)) : J p l e R s m args below meth c A Q (cP g T Θ σ C A) cells slots pc L stk :=
  J_callFX hC (hM T Θ hΘ) hFw hT hd hR hf has hstk hn hnL hW hc (fun H h => (cP_at h hl he).1) (fun H h => h) hdg (fun E => JX_ex (fun C9 hx => kx E C9 hx)) (fun v => J_exP (fun C9 hp => kk v C9 hp))
end JCOMP
