/-! THE MODEL's LAYER: the object ProofPagesModel and its 15 arrays as ONE function F: field k (scalars at place 0), place j -/
set_option maxRecDepth 100000
abbrev mF : Type := Nat → Int → Int
def upF (F : mF) (k : Nat) (i v : Int) : mF := fun k' j => if k' = k ∧ j = i then v else F k' j
theorem upF_self (F : mF) (k : Nat) (i v : Int) : upF F k i v k i = v := if_pos ⟨rfl, rfl⟩
theorem upF_k (F : mF) {k k' : Nat} (i v : Int) (h : k' ≠ k) : upF F k i v k' = F k' := funext fun _ => if_neg fun q => h q.1
theorem upF_j (F : mF) (k : Nat) {i j : Int} (v : Int) (h : j ≠ i) : upF F k i v k j = F k j := if_neg fun q => h q.2
theorem upF_row (F : mF) (k : Nat) (i v : Int) : upF F k i v k = upI (F k) i v := funext fun j => by
  unfold upF upI
  by_cases h : j = i
  · rw [if_pos ⟨rfl, h⟩, if_pos h]
  · rw [if_neg (fun q => h q.2), if_neg h]
def mfs (F : mF) (AD : Nat → Nat) : List Value := [.int (zI (F 0 0)), .int (zI (F 1 0)), .int (zI (F 2 0)), .int (zI (F 3 0)), .ref (AD 4), .ref (AD 5), .ref (AD 6), .int (zI (F 7 0)), .ref (AD 8), .ref (AD 9), .ref (AD 10), .ref (AD 11), .ref (AD 12), .ref (AD 13), .ref (AD 14), .ref (AD 15), .ref (AD 16), .int (zI (F 17 0)), .ref (AD 18), .ref (AD 19), .ref (AD 20)]
/-- an array's length; 0: no array -/
def mlen (k : Nat) : Nat := match k with
  | 4 => 6
  | 5 => 6
  | 6 => 360
  | 8 => 60
  | 9 => 60
  | 10 => 60
  | 11 => 960
  | 12 => 960
  | 13 => 960
  | 14 => 976
  | 15 => 976
  | 16 => 6
  | 18 => 30
  | 19 => 30
  | 20 => 30
  | _ => 0
/-- 1: booleans -/
def mtag (k : Nat) : Nat := match k with
  | 4 => 1
  | 12 => 1
  | 13 => 1
  | _ => 0
def msc (k : Nat) : Bool := match k with
  | 0 => true
  | 1 => true
  | 2 => true
  | 3 => true
  | 7 => true
  | 17 => true
  | _ => false
/-- the model's cells are apart -/
def mD (x : Nat) (AD : Nat → Nat) : Prop := (∀ k, 0 < mlen k → AD k ≠ x) ∧ ∀ k k', 0 < mlen k → 0 < mlen k' → AD k = AD k' → k = k'
/-- what the model's methods leave alone -/
def mSt (x : Nat) (AD : Nat → Nat) (Θ : Heap → Prop) : Prop := ∀ H H1 : Heap, Θ H → H1.size = H.size → (∀ q, q ≠ x → (∀ k, 0 < mlen k → q ≠ AD k) → H1[q]? = H[q]?) → Θ H1
def mP (g : jG) (x : Nat) (AD : Nat → Nat) (Θ : Heap → Prop) (F : mF) (A : Nat → Prop) (H : Heap) : Prop :=
  (va_at g.1 jcl (x, .inr (2, mfs F AD)) H ∧ A x) ∧ (∀ k, 0 < mlen k → va_at g.1 jcl (AD k, jI (g.2.1 (mtag k)) (mlen k) (F k)) H ∧ A (AD k)) ∧ Θ H
def mM (g : jG) (l : Launch) (x : Nat) (AD : Nat → Nat) (y : MethodName) (ws : List Cond) (rm : Room) (as : List Value) (F : mF) (P : Option Value → mF → Prop) : Prop :=
  ∀ Θ : Heap → Prop, mSt x AD Θ → jM g l y ws rm as (mP g x AD Θ F) (fun A v H => ∃ F' : mF, P v F' ∧ mP g x AD Θ F' A H)
/-- an int is answered -/
abbrev mMi (g : jG) (l : Launch) (x : Nat) (AD : Nat → Nat) (y : MethodName) (ws : List Cond) (rm : Room) (as : List Value) (F : mF) (P : Int → mF → Prop) : Prop := mM g l x AD y ws rm as F (fun v F' => ∃ r : Int, v = some (.int (zI r)) ∧ P r F')
abbrev mMv (g : jG) (l : Launch) (x : Nat) (AD : Nat → Nat) (y : MethodName) (ws : List Cond) (rm : Room) (as : List Value) (F : mF) (P : mF → Prop) : Prop := mM g l x AD y ws rm as F (fun v F' => v = none ∧ P F')
abbrev jr (d c s : Nat) : Room := { frames := 10 * (d + 1), cells := c, slots := s, locals := 200 * (d + 1) }
theorem mfs_set (F : mF) (AD : Nat → Nat) (v : Int) : ∀ k, msc k = true → (mfs F AD).set k (.int (zI v)) = mfs (upF F k 0 v) AD
  | 0, _ => rfl
  | 1, _ => rfl
  | 2, _ => rfl
  | 3, _ => rfl
  | 7, _ => rfl
  | 17, _ => rfl
  | 4, h | 5, h | 6, h | 8, h | 9, h | 10, h | 11, h | 12, h | 13, h | 14, h | 15, h | 16, h => by cases h
  | k + 18, h => by cases h
theorem msc_len : ∀ k, msc k = true → mlen k = 0
  | 0, _ | 1, _ | 2, _ | 3, _ | 7, _ | 17, _ => rfl
  | 4, h | 5, h | 6, h | 8, h | 9, h | 10, h | 11, h | 12, h | 13, h | 14, h | 15, h | 16, h => by cases h
  | k + 18, h => by cases h
theorem msc_lt : ∀ k, msc k = true → k < 21 ∧ (TX3 k).2.2.2 = false ∧ tyX3 k = .int
  | 0, _ | 1, _ | 2, _ | 3, _ | 7, _ | 17, _ => by decide +kernel
  | 4, h | 5, h | 6, h | 8, h | 9, h | 10, h | 11, h | 12, h | 13, h | 14, h | 15, h | 16, h => by cases h
  | k + 18, h => by cases h
theorem mfs_row (F : mF) (AD : Nat → Nat) (i v : Int) : ∀ k, 0 < mlen k → mfs (upF F k i v) AD = mfs F AD
  | 0, h | 1, h | 2, h | 3, h | 7, h | 17, h => by cases h
  | 4, _ | 5, _ | 6, _ | 8, _ | 9, _ | 10, _ | 11, _ | 12, _ | 13, _ | 14, _ | 15, _ | 16, _ | 18, _ | 19, _ | 20, _ => rfl
  | k + 21, h => by cases h
theorem mP_set {g : jG} {x : Nat} {AD : Nat → Nat} {Θ : Heap → Prop} {F : mF} {A : Nat → Prop} {H H1 : Heap} {k : Nat} {v : Int} (hD : mD x AD) (hΘ : mSt x AD Θ) (hk : msc k = true) (h : mP g x AD Θ F A H) (hx : va_at g.1 jcl (x, .inr (2, (mfs F AD).set k (.int (zI v)))) H1) (hz : H1.size = H.size) (oq : ∀ q, q ≠ x → H1[q]? = H[q]?) : mP g x AD Θ (upF F k 0 v) A H1 := by
  refine ⟨⟨by rw [← mfs_set F AD v k hk]; exact hx, h.1.2⟩, fun k' hk' => ?_, hΘ H H1 h.2.2 hz (fun q h1 _ => oq q h1)⟩
  have hne : k' ≠ k := fun e => by rw [e, msc_len k hk] at hk'; cases hk'
  rw [upF_k F 0 v hne]
  exact ⟨(h.2.1 k' hk').1.kept (oq _ (hD.1 k' hk')), (h.2.1 k' hk').2⟩
theorem mP_row {g : jG} {x : Nat} {AD : Nat → Nat} {Θ : Heap → Prop} {F : mF} {A : Nat → Prop} {H H1 : Heap} {k : Nat} {i v : Int} (hD : mD x AD) (hΘ : mSt x AD Θ) (hk : 0 < mlen k) (h : mP g x AD Θ F A H) (hx : va_at g.1 jcl (AD k, jI (g.2.1 (mtag k)) (mlen k) (upI (F k) i v)) H1) (hz : H1.size = H.size) (oq : ∀ q, q ≠ AD k → H1[q]? = H[q]?) : mP g x AD Θ (upF F k i v) A H1 := by
  refine ⟨⟨by rw [mfs_row F AD i v k hk]; exact h.1.1.kept (oq _ (Ne.symm (hD.1 k hk))), h.1.2⟩, fun k' hk' => ?_, hΘ H H1 h.2.2 hz (fun q _ h2 => oq q (h2 k hk))⟩
  by_cases hne : k' = k
  · subst hne
    rw [upF_row]
    exact ⟨hx, (h.2.1 k' hk).2⟩
  · rw [upF_k F i v hne]
    exact ⟨(h.2.1 k' hk').1.kept (oq _ (fun e => hne (hD.2 k' k hk' hk e))), (h.2.1 k' hk').2⟩
section JMOD
variable {g : jG} {p : Program} {l : Launch} {e : Env} {R : Room} {s : State} {m : MethodId} {args : Array Value} {below : List Frame} {meth : Method} {c : Code} {A : Nat → Prop} {Q : State → Prop} {cells slots pc : Nat} {L : jLs} {st : List Value} {cc : ByteArray} {nL : Nat} {ret : Option FieldType} {x : Nat} {AD : Nat → Nat} {Θ : Heap → Prop} {F : mF}
theorem Jm_get (hC : jC g p l s m args meth c A cc RX3 nL ret) {index : Nat} (k : Nat) {v : Value} (hk : k < 21) (hlink : Cond.fieldLink RX3 index RX3 (TX3 k).2.1 (TX3 k).2.2.1 ∈ lw_all) (hsame : RX3 = (TX3 k).1) (hv : (mfs F AD)[k]? = some v) (hdg : decode cc pc = .ok (.getfield index, 3)) (kk : J p l e R s m args below meth c A Q (mP g x AD Θ F A) cells slots (pc + 3) L (v :: st)) : J p l e R s m args below meth c A Q (mP g x AD Θ F A) cells slots pc L (.ref x :: st) :=
  J_get hC (ci := 2) in_X3 rfl hk hlink (fun _ h => by rw [hsame]; exact h) (fun H h => h.1.1) hv hdg kk
theorem mfs_get (F : mF) (AD : Nat → Nat) : ∀ k, msc k = true → (mfs F AD)[k]? = some (.int (zI (F k 0)))
  | 0, _ | 1, _ | 2, _ | 3, _ | 7, _ | 17, _ => rfl
  | 4, h | 5, h | 6, h | 8, h | 9, h | 10, h | 11, h | 12, h | 13, h | 14, h | 15, h | 16, h => by cases h
  | k + 18, h => by cases h
theorem Jm_gets (hC : jC g p l s m args meth c A cc RX3 nL ret) {index : Nat} (k : Nat) {v : Int} (hv : F k 0 = v) (hk : msc k = true) (hlink : Cond.fieldLink RX3 index RX3 (TX3 k).2.1 (TX3 k).2.2.1 ∈ lw_all) (hsame : RX3 = (TX3 k).1) (hdg : decode cc pc = .ok (.getfield index, 3)) (kk : J p l e R s m args below meth c A Q (mP g x AD Θ F A) cells slots (pc + 3) L (.int (zI v) :: st)) : J p l e R s m args below meth c A Q (mP g x AD Θ F A) cells slots pc L (.ref x :: st) := by
  subst hv
  exact Jm_get hC k (msc_lt k hk).1 hlink hsame (mfs_get F AD k hk) hdg kk
theorem Jm_put (hC : jC g p l s m args meth c A cc RX3 nL ret) (hD : mD x AD) (hΘ : mSt x AD Θ) {index : Nat} (k : Nat) {v : Int} (hk : msc k = true) (hlink : Cond.fieldLink RX3 index RX3 (TX3 k).2.1 (TX3 k).2.2.1 ∈ lw_all) (hsame : RX3 = (TX3 k).1) (hl0 : k < 21) (hdg : decode cc pc = .ok (.putfield index, 3)) (kk : J p l e R s m args below meth c A Q (mP g x AD Θ (upF F k 0 v) A) cells slots (pc + 3) L st) : J p l e R s m args below meth c A Q (mP g x AD Θ F A) cells slots pc L (.int (zI v) :: .ref x :: st) :=
  J_put hC (ci := 2) (ty := .int) in_X3 tyX3_ok nmX3 rfl hl0 hlink (fun _ h => by rw [hsame]; exact h) (msc_lt k hk).2.1 (msc_lt k hk).2.2 rfl rfl (show k < (mfs F AD).length from hl0) (fun H h => h.1) (fun H H1 h hx hz oq => mP_set hD hΘ hk h hx hz oq) hdg kk
theorem Jm_iald (hC : jC g p l s m args meth c A cc RX3 nL ret) (k : Nat) {i v : Int} (hv : F k i = v) {n : Nat} (hn0 : mlen k = n) (hp : 0 < n) (ht : mtag k = 0) (h0 : 0 ≤ i) (hn : i < n) (hdg : decode cc pc = .ok (.iaload, 1)) (kk : J p l e R s m args below meth c A Q (mP g x AD Θ F A) cells slots (pc + 1) L (.int (zI v) :: st)) : J p l e R s m args below meth c A Q (mP g x AD Θ F A) cells slots pc L (.int (zI i) :: .ref (AD k) :: st) := by
  subst hv
  subst hn0
  have hz : mlen k < 2147483648 := by unfold mlen; split <;> decide
  exact J_iald hC h0 hn hz (fun H h => by rw [← ht]; exact (h.2.1 k hp).1) hdg kk
theorem Jm_zald (hC : jC g p l s m args meth c A cc RX3 nL ret) (k : Nat) {i v : Int} (hv : F k i = v) {n : Nat} (hn0 : mlen k = n) (hp : 0 < n) (ht : mtag k = 1) (h0 : 0 ≤ i) (hn : i < n) (hdg : decode cc pc = .ok (.baload, 1)) (kk : J p l e R s m args below meth c A Q (mP g x AD Θ F A) cells slots (pc + 1) L (.int (zI v) :: st)) : J p l e R s m args below meth c A Q (mP g x AD Θ F A) cells slots pc L (.int (zI i) :: .ref (AD k) :: st) := by
  subst hv
  subst hn0
  have hz : mlen k < 2147483648 := by unfold mlen; split <;> decide
  exact J_zald hC h0 hn hz (fun H h => by rw [← ht]; exact (h.2.1 k hp).1) hdg kk
theorem Jm_iast (hC : jC g p l s m args meth c A cc RX3 nL ret) (hD : mD x AD) (hΘ : mSt x AD Θ) (k : Nat) {i v : Int} {n : Nat} (hn0 : mlen k = n) (hp : 0 < n) (ht : mtag k = 0) (h0 : 0 ≤ i) (hn : i < n) (hdg : decode cc pc = .ok (.iastore, 1)) (kk : J p l e R s m args below meth c A Q (mP g x AD Θ (upF F k i v) A) cells slots (pc + 1) L st) : J p l e R s m args below meth c A Q (mP g x AD Θ F A) cells slots pc L (.int (zI v) :: .int (zI i) :: .ref (AD k) :: st) := by
  subst hn0
  have hz : mlen k < 2147483648 := by unfold mlen; split <;> decide
  exact J_iast hC h0 hn hz (fun H h => by rw [← ht]; exact h.2.1 k hp) (fun H H1 h hx hz oq => mP_row hD hΘ hp h (by rw [ht]; exact hx) hz oq) hdg kk
theorem Jm_zast (hC : jC g p l s m args meth c A cc RX3 nL ret) (hD : mD x AD) (hΘ : mSt x AD Θ) (k : Nat) {i v : Int} {n : Nat} (hn0 : mlen k = n) (hp : 0 < n) (ht : mtag k = 1) (hv : v = 0 ∨ v = 1) (h0 : 0 ≤ i) (hn : i < n) (hdg : decode cc pc = .ok (.bastore, 1)) (kk : J p l e R s m args below meth c A Q (mP g x AD Θ (upF F k i v) A) cells slots (pc + 1) L st) : J p l e R s m args below meth c A Q (mP g x AD Θ F A) cells slots pc L (.int (zI v) :: .int (zI i) :: .ref (AD k) :: st) := by
  subst hn0
  have hz : mlen k < 2147483648 := by unfold mlen; split <;> decide
  exact J_zast hC h0 hn hz hv (fun H h => by rw [← ht]; exact h.2.1 k hp) (fun H H1 h hx hz oq => mP_row hD hΘ hp h (by rw [ht]; exact hx) hz oq) hdg kk
/-- a call of the model's method by itself -/
theorem Jm_callV (hC : jC g p l s m args meth c A cc RX3 nL ret) (hΘ : mSt x AD Θ) {y : MethodName} {bytes : ByteArray} {maxL n index d d' : Nat} {rt : Option FieldType} {as' As stk : List Value} {P : Option Value → mF → Prop} (hM : mM g l x AD y (ws_ y bytes maxL rt) (jr d' 0 0) as' F P) (hT : GoodIn lw_all (wsV RX3 index RX3 y (ws_ y bytes maxL rt))) (hd : y.cls = RX3 ∧ y.cls ≠ "java/lang/invoke/MethodHandle" ∧ y.cls ≠ "java/lang/invoke/VarHandle" ∧ (parseMethodDescriptor y.desc).map (fun d => d.parameters.length) = some n) (hR : (jr d' 0 0).frames + 1 ≤ (jr d 0 0).frames ∧ 8 + (maxL + 11) + (jr d' 0 0).locals ≤ (jr d 0 0).locals) (has : as' = .ref x :: As) (hstk : stk = As.reverse ++ .ref x :: st) (hn : As.length = n) (hnL : L.length = nL) (hW : (st.map fun v => v.category).sum ≤ 8) (hdg : decode cc pc = .ok (.invokevirtual index, 3)) (kk : ∀ (v : Option Value) (F' : mF), P v F' → J p l e (jr d 0 0) s m args below meth c A Q (mP g x AD Θ F' A) 0 0 (pc + 3) L (v.toList ++ st)) : J p l e (jr d 0 0) s m args below meth c A Q (mP g x AD Θ F A) 0 0 pc L stk :=
  J_callV hC (ci := 2) (hM Θ hΘ) hT hd hR ⟨Nat.le_refl _, Nat.le_refl _⟩ has hstk hn hnL hW rfl (fun H h => h.1.1) (fun H h => h) hdg (fun v => J_ex (fun F' => J_and (fun hp => kk v F' hp)))
theorem Jm_callVi (hC : jC g p l s m args meth c A cc RX3 nL ret) (hΘ : mSt x AD Θ) {y : MethodName} {bytes : ByteArray} {maxL n index d d' : Nat} {rt : Option FieldType} {as' As stk : List Value} {P : Int → mF → Prop} (hM : mMi g l x AD y (ws_ y bytes maxL rt) (jr d' 0 0) as' F P) (hT : GoodIn lw_all (wsV RX3 index RX3 y (ws_ y bytes maxL rt))) (hd : y.cls = RX3 ∧ y.cls ≠ "java/lang/invoke/MethodHandle" ∧ y.cls ≠ "java/lang/invoke/VarHandle" ∧ (parseMethodDescriptor y.desc).map (fun d => d.parameters.length) = some n) (hR : (jr d' 0 0).frames + 1 ≤ (jr d 0 0).frames ∧ 8 + (maxL + 11) + (jr d' 0 0).locals ≤ (jr d 0 0).locals) (has : as' = .ref x :: As) (hstk : stk = As.reverse ++ .ref x :: st) (hn : As.length = n) (hnL : L.length = nL) (hW : (st.map fun v => v.category).sum ≤ 8) (hdg : decode cc pc = .ok (.invokevirtual index, 3)) (kk : ∀ (r : Int) (F' : mF), P r F' → J p l e (jr d 0 0) s m args below meth c A Q (mP g x AD Θ F' A) 0 0 (pc + 3) L (.int (zI r) :: st)) : J p l e (jr d 0 0) s m args below meth c A Q (mP g x AD Θ F A) 0 0 pc L stk :=
  Jm_callV hC hΘ hM hT hd hR has hstk hn hnL hW hdg (fun v F' ⟨r, hv, hp⟩ => by subst hv; exact kk r F' hp)
theorem Jm_callVv (hC : jC g p l s m args meth c A cc RX3 nL ret) (hΘ : mSt x AD Θ) {y : MethodName} {bytes : ByteArray} {maxL n index d d' : Nat} {rt : Option FieldType} {as' As stk : List Value} {P : mF → Prop} (hM : mMv g l x AD y (ws_ y bytes maxL rt) (jr d' 0 0) as' F P) (hT : GoodIn lw_all (wsV RX3 index RX3 y (ws_ y bytes maxL rt))) (hd : y.cls = RX3 ∧ y.cls ≠ "java/lang/invoke/MethodHandle" ∧ y.cls ≠ "java/lang/invoke/VarHandle" ∧ (parseMethodDescriptor y.desc).map (fun d => d.parameters.length) = some n) (hR : (jr d' 0 0).frames + 1 ≤ (jr d 0 0).frames ∧ 8 + (maxL + 11) + (jr d' 0 0).locals ≤ (jr d 0 0).locals) (has : as' = .ref x :: As) (hstk : stk = As.reverse ++ .ref x :: st) (hn : As.length = n) (hnL : L.length = nL) (hW : (st.map fun v => v.category).sum ≤ 8) (hdg : decode cc pc = .ok (.invokevirtual index, 3)) (kk : ∀ (F' : mF), P F' → J p l e (jr d 0 0) s m args below meth c A Q (mP g x AD Θ F' A) 0 0 (pc + 3) L st) : J p l e (jr d 0 0) s m args below meth c A Q (mP g x AD Θ F A) 0 0 pc L stk :=
  Jm_callV hC hΘ hM hT hd hR has hstk hn hnL hW hdg (fun v F' ⟨hv, hp⟩ => by subst hv; exact kk F' hp)
/-- how a method of the model ends -/
abbrev mQ (g : jG) (x : Nat) (AD : Nat → Nat) (Θ : Heap → Prop) (P : Option Value → mF → Prop) (below : List Frame) (args : Array Value) (s : State) (A : Nat → Prop) : State → Prop := MQ below (jR (fun v H => ∃ F' : mF, P v F' ∧ mP g x AD Θ F' A H) A) args s 0 0 A
theorem Jm_iret {P : Option Value → mF → Prop} (hC : jC g p l s m args meth c A cc RX3 nL (some .int)) (hQ : Q = mQ g x AD Θ P below args s A) {r : Int} (hp : P (some (.int (zI r))) F) (hdg : decode cc pc = .ok (.ireturn, 1)) : J p l e R s m args below meth c A Q (mP g x AD Θ F A) 0 0 pc L [.int (zI r)] := by
  subst hQ
  exact J_iret hC (Nat.le_refl _) (Nat.le_refl _) (fun H hH => ⟨F, hp, hH⟩) hdg
theorem Jm_zret {P : Option Value → mF → Prop} (hC : jC g p l s m args meth c A cc RX3 nL (some .boolean)) (hQ : Q = mQ g x AD Θ P below args s A) {r : Int} (hr : r = 0 ∨ r = 1) (hp : P (some (.int (zI r))) F) (hdg : decode cc pc = .ok (.ireturn, 1)) : J p l e R s m args below meth c A Q (mP g x AD Θ F A) 0 0 pc L [.int (zI r)] := by
  subst hQ
  exact J_zret hC hr (Nat.le_refl _) (Nat.le_refl _) (fun H hH => ⟨F, hp, hH⟩) hdg
theorem Jm_vret {P : Option Value → mF → Prop} (hC : jC g p l s m args meth c A cc RX3 nL none) (hQ : Q = mQ g x AD Θ P below args s A) (hp : P none F) (hdg : decode cc pc = .ok (.return_, 1)) : J p l e R s m args below meth c A Q (mP g x AD Θ F A) 0 0 pc L [] := by
  subst hQ
  exact J_vret hC (Nat.le_refl _) (Nat.le_refl _) (fun H hH => ⟨F, hp, hH⟩) hdg
end JMOD
theorem mM_of {g : jG} {l : Launch} {x : Nat} {AD : Nat → Nat} {y : MethodName} {cc : ByteArray} {nL d : Nat} {ret : Option FieldType} {as : List Value} {F : mF} {P : Option Value → mF → Prop} {L0 : jLs} (hnt : l.stackTraces = false) (hy : plainName y.cls = true) (hyc : y.cls = RX3) (hlen : (lg_sl as).length ≤ nL) (hcat : (lv_args 0 as).all (fun q => q.2.category == 1) = true) (hL : jmk nL (lv_args 0 as) = L0)
    (body : ∀ (Θ : Heap → Prop), mSt x AD Θ → ∀ (p : Program) (e : Env) (s : State) (m : MethodId) (args : Array Value) (below : List Frame) (meth : Method) (c : Code) (A : Nat → Prop) (Q : State → Prop), jC g p l s m args meth c A cc RX3 nL ret → Q = mQ g x AD Θ P below args s A → J p l e (jr d 0 0) s m args below meth c A Q (mP g x AD Θ F A) 0 0 0 L0 []) : mM g l x AD y (ws_ y cc nL ret) (jr d 0 0) as F P := by
  intro Θ hΘ
  refine jM_of hnt hy hlen hcat hL ?_
  intro p e s m args below meth c A hC _
  rw [hyc] at hC
  exact body Θ hΘ p e s m args below meth c A _ hC rfl
/-- isIn: what it answers, whatever the heap -/
theorem m_isIn {g : jG} {l : Launch} (hnt : l.stackTraces = false) {v lo hi : Int} (hv : zR v) (hlo : zR lo) (hhi : zR hi) (Φ : (Nat → Prop) → Heap → Prop) : jM g l yX3_isIn (ws_ yX3_isIn cX3_isIn 3 (some .boolean)) (jr 0 0 0) [.int (zI v), .int (zI lo), .int (zI hi)] Φ (fun A r H => (∃ b : Int, r = some (.int (zI b)) ∧ (b = 1 ∧ lo ≤ v ∧ v ≤ hi ∨ b = 0 ∧ ¬ (lo ≤ v ∧ v ≤ hi))) ∧ Φ A H) := by
  refine jM_of hnt (by decide +kernel) (Nat.le_of_ble_eq_true rfl) rfl rfl ?_
  intro p e s m args below meth c A hC _
  refine J_iload_n hC dX3_isIn_0 rfl ?_
  refine J_iload_n hC dX3_isIn_1 rfl ?_
  refine J_icmp_lt (tgt := 14) hC hv hlo dX3_isIn_2 rfl (fun c2 => ?_) (fun c2 => ?_)
  · refine J_iconst hC dX3_isIn_14 ?_
    exact J_zret hC (by omega) (Nat.le_refl _) (Nat.le_refl _) (fun H hH => ⟨⟨0, rfl, Or.inr ⟨rfl, by omega⟩⟩, hH⟩) dX3_isIn_15
  · refine J_iload_n hC dX3_isIn_5 rfl ?_
    refine J_iload_n hC dX3_isIn_6 rfl ?_
    refine J_icmp_gt (tgt := 14) hC hv hhi dX3_isIn_7 rfl (fun c7 => ?_) (fun c7 => ?_)
    · refine J_iconst hC dX3_isIn_14 ?_
      exact J_zret hC (by omega) (Nat.le_refl _) (Nat.le_refl _) (fun H hH => ⟨⟨0, rfl, Or.inr ⟨rfl, by omega⟩⟩, hH⟩) dX3_isIn_15
    · refine J_iconst hC dX3_isIn_10 ?_
      refine J_goto (tgt := 15) hC dX3_isIn_11 rfl ?_
      exact J_zret hC (by omega) (Nat.le_refl _) (Nat.le_refl _) (fun H hH => ⟨⟨1, rfl, Or.inl ⟨rfl, by omega⟩⟩, hH⟩) dX3_isIn_15
section JMOD2
variable {g : jG} {p : Program} {l : Launch} {e : Env} {R : Room} {s : State} {m : MethodId} {args : Array Value} {below : List Frame} {meth : Method} {c : Code} {A : Nat → Prop} {Q : State → Prop} {cells slots pc : Nat} {L : jLs} {st : List Value} {cc : ByteArray} {nL : Nat} {ret : Option FieldType} {x : Nat} {AD : Nat → Nat} {Θ : Heap → Prop} {F : mF}
theorem Jm_isIn (hC : jC g p l s m args meth c A cc RX3 nL ret) {index d : Nat} {v lo hi : Int} (hT : GoodIn lw_all (va_wsS RX3 index yX3_isIn (ws_ yX3_isIn cX3_isIn 3 (some .boolean)))) (hR : (jr 0 0 0).frames + 1 ≤ (jr d 0 0).frames ∧ 8 + (3 + 11) + (jr 0 0 0).locals ≤ (jr d 0 0).locals) (hv : zR v) (hlo : zR lo) (hhi : zR hi) (hnL : L.length = nL) (hW : (st.map fun v => v.category).sum ≤ 8) (hdg : decode cc pc = .ok (.invokestatic index, 3)) (kk : ∀ b : Int, (b = 1 ∧ lo ≤ v ∧ v ≤ hi ∨ b = 0 ∧ ¬ (lo ≤ v ∧ v ≤ hi)) → J p l e (jr d 0 0) s m args below meth c A Q (mP g x AD Θ F A) 0 0 (pc + 3) L (.int (zI b) :: st)) : J p l e (jr d 0 0) s m args below meth c A Q (mP g x AD Θ F A) 0 0 pc L (.int (zI hi) :: .int (zI lo) :: .int (zI v) :: st) :=
  J_callS (n := 3) hC (m_isIn (jC_nt hC) hv hlo hhi (fun A => mP g x AD Θ F A)) hT (by decide +kernel) hR ⟨Nat.le_refl _, Nat.le_refl _⟩ rfl rfl rfl hnL hW (fun H h => h) hdg (fun r => J_and (fun ⟨b, hr, hb⟩ => by subst hr; exact kk b hb))
end JMOD2
