/-! ArrayList, and what it calls: contracts for any kind of heap that holds the list -/
set_option maxRecDepth 100000
abbrev jPh : Type := (Nat → Prop) → Heap → Prop
abbrev jPs : Type := (Nat → Prop) → Option Value → Heap → Prop
abbrev lst (g : jG) (a : Nat) (mc : Int) (arr : Nat) (n : Int) (H : Heap) : Prop := va_at g.1 jcl (a, .inr (6, [.int (zI mc), .ref arr, .int (zI n)])) H
abbrev arq (g : jG) (arr cap : Nat) (f : Nat → Option Nat) (H : Heap) : Prop := va_at g.1 jcl (arr, jQ (g.2.1 3) cap f) H
/-- as before, except at these addresses -/
def keptX (S : Nat → Prop) (H H1 : Heap) : Prop := H1.size = H.size ∧ ∀ q, ¬ S q → H1[q]? = H[q]?
theorem keptX_one {a : Nat} {H H1 : Heap} (hz : H1.size = H.size) (oq : ∀ q, q ≠ a → H1[q]? = H[q]?) : keptX (fun q => q = a) H H1 := ⟨hz, oq⟩
theorem l_size {g : jG} {l : Launch} (hnt : l.stackTraces = false) {a arr : Nat} {mc n : Int} {Φ : jPh} {Ψ : jPs} (ho : ∀ A H, Φ A H → lst g a mc arr n H) (hΨ : ∀ A H, Φ A H → Ψ A (some (.int (zI n))) H) : jM g l yJ2_size (ws_ yJ2_size cJ2_size 1 (some .int)) (jr 0 0 0) [.ref (a)] Φ Ψ := by
  refine jM_of (L0 := [some (.ref (a))]) hnt (by decide +kernel) (Nat.le_of_ble_eq_true rfl) rfl rfl ?_
  intro p e s m args below meth c A hC hN
  refine J_aload_n hC dJ2_size_0 rfl ?_
  refine J_get hC (ci := 6) (k := 2) in_J2 rfl (Nat.le_of_ble_eq_true rfl) q407 (fun _ h => h) (fun H h => ho A H h) rfl dJ2_size_1 ?_
  refine J_iret hC (Nat.le_refl _) (Nat.le_refl _) (fun H h => hΨ A H h) dJ2_size_4
theorem l_elementData {g : jG} {l : Launch} (hnt : l.stackTraces = false) {a arr cap : Nat} {mc n i : Int} {f : Nat → Option Nat} {Φ : jPh} {Ψ : jPs} (h0 : 0 ≤ i) (h1 : i < cap) (h2 : cap < 2147483648) (ho : ∀ A H, Φ A H → lst g a mc arr n H ∧ arq g arr cap f H) (hΨ : ∀ A H, Φ A H → Ψ A (some (va_rf (f i.toNat))) H) : jM g l yJ2_elementData (ws_ yJ2_elementData cJ2_elementData 2 (some (.object "java/lang/Object"))) (jr 0 0 0) [.ref (a), .int (zI (i))] Φ Ψ := by
  refine jM_of (L0 := [some (.ref (a)), some (.int (zI (i)))]) hnt (by decide +kernel) (Nat.le_of_ble_eq_true rfl) rfl rfl ?_
  intro p e s m args below meth c A hC hN
  refine J_aload_n hC dJ2_elementData_0 rfl ?_
  refine J_get hC (ci := 6) (k := 1) in_J2 rfl (Nat.le_of_ble_eq_true rfl) q406 (fun _ h => h) (fun H h => (ho A H h).1) rfl dJ2_elementData_1 ?_
  refine J_iload_n hC dJ2_elementData_4 rfl ?_
  refine J_aald hC h0 h1 h2 (fun H h => (ho A H h).2) dJ2_elementData_5 ?_
  refine J_aret hC (Or.inl ⟨_, rfl⟩) (by cases f i.toNat with | none => exact Or.inl rfl | some x => exact Or.inr ⟨x, rfl⟩) (Nat.le_refl _) (Nat.le_refl _) (fun H h => hΨ A H h) dJ2_elementData_6
theorem l_pcheck {g : jG} {l : Launch} (hnt : l.stackTraces = false) {i n : Int} {Φ : jPh} {Ψ : jPs} (h0 : 0 ≤ i) (h1 : i < n) (h2 : n < 2147483648) (hΨ : ∀ A H, Φ A H → Ψ A (some (.int (zI i))) H) : jM g l yJ14_checkIndex (ws_ yJ14_checkIndex cJ14_checkIndex 3 (some .int)) (jr 0 0 0) [.int (zI (i)), .int (zI (n)), .null] Φ Ψ := by
  refine jM_of (L0 := [some (.int (zI (i))), some (.int (zI (n))), some (.null)]) hnt (by decide +kernel) (Nat.le_of_ble_eq_true rfl) rfl rfl ?_
  intro p e s m args below meth c A hC hN
  refine J_iload_n hC dJ14_checkIndex_0 rfl ?_
  refine J_if_lt (tgt := 9) hC (by first | with_reducible assumption | exact zR_mk (by omega) (by omega)) dJ14_checkIndex_1 rfl (fun c1 => ?_) (fun c1 => ?_)
  · exact absurd c1 (by omega)
  · refine J_iload_n hC dJ14_checkIndex_4 rfl ?_
    refine J_iload_n hC dJ14_checkIndex_5 rfl ?_
    refine J_icmp_lt (tgt := 16) hC (by first | with_reducible assumption | exact zR_mk (by omega) (by omega)) (by first | with_reducible assumption | exact zR_mk (by omega) (by omega)) dJ14_checkIndex_6 rfl (fun c6 => ?_) (fun c6 => ?_)
    · refine J_iload_n hC dJ14_checkIndex_16 rfl ?_
      refine J_iret hC (Nat.le_refl _) (Nat.le_refl _) (fun H h => hΨ A H h) dJ14_checkIndex_17
    · exact absurd h1 c6
theorem l_ocheck {g : jG} {l : Launch} (hnt : l.stackTraces = false) {i n : Int} {Φ : jPh} {Ψ : jPs} (h0 : 0 ≤ i) (h1 : i < n) (h2 : n < 2147483648) (hΨ : ∀ A H, Φ A H → Ψ A (some (.int (zI i))) H) : jM g l yJ20_checkIndex (ws_ yJ20_checkIndex cJ20_checkIndex 2 (some .int)) (jr 1 0 0) [.int (zI (i)), .int (zI (n))] Φ Ψ := by
  refine jM_of (L0 := [some (.int (zI (i))), some (.int (zI (n)))]) hnt (by decide +kernel) (Nat.le_of_ble_eq_true rfl) rfl rfl ?_
  intro p e s m args below meth c A hC hN
  refine J_iload_n hC dJ20_checkIndex_0 rfl ?_
  refine J_iload_n hC dJ20_checkIndex_1 rfl ?_
  refine J_null hC dJ20_checkIndex_2 ?_
  refine J_callS (n := 3) hC (l_pcheck (Φ := Φ) (Ψ := fun A v H => v = some (.int (zI i)) ∧ Φ A H) hnt h0 h1 h2 (fun A H h => ⟨rfl, h⟩)) (lw_S q498 q499 q57 q500) (by decide +kernel) ⟨(Nat.le_of_ble_eq_true rfl), (Nat.le_of_ble_eq_true rfl)⟩ ⟨(Nat.le_of_ble_eq_true rfl), (Nat.le_of_ble_eq_true rfl)⟩ rfl rfl rfl rfl (Nat.le_of_ble_eq_true rfl) (fun H h => h) dJ20_checkIndex_3 (fun v3 => ?_)
  refine J_and (fun e3 => ?_)
  subst e3
  refine J_iret hC (Nat.le_refl _) (Nat.le_refl _) (fun H h => hΨ A H h) dJ20_checkIndex_6
theorem l_get {g : jG} {l : Launch} (hnt : l.stackTraces = false) {a arr cap : Nat} {mc n i : Int} {f : Nat → Option Nat} {Φ : jPh} {Ψ : jPs} (h0 : 0 ≤ i) (h1 : i < n) (h2 : n ≤ cap) (h3 : cap < 2147483648) (ho : ∀ A H, Φ A H → lst g a mc arr n H ∧ arq g arr cap f H) (hΨ : ∀ A H, Φ A H → Ψ A (some (va_rf (f i.toNat))) H) : jM g l yJ2_get (ws_ yJ2_get cJ2_get 2 (some (.object "java/lang/Object"))) (jr 2 0 0) [.ref (a), .int (zI (i))] Φ Ψ := by
  refine jM_of (L0 := [some (.ref (a)), some (.int (zI (i)))]) hnt (by decide +kernel) (Nat.le_of_ble_eq_true rfl) rfl rfl ?_
  intro p e s m args below meth c A hC hN
  refine J_iload_n hC dJ2_get_0 rfl ?_
  refine J_aload_n hC dJ2_get_1 rfl ?_
  refine J_get hC (ci := 6) (k := 2) in_J2 rfl (Nat.le_of_ble_eq_true rfl) q407 (fun _ h => h) (fun H h => (ho A H h).1) rfl dJ2_get_2 ?_
  refine J_callS (n := 2) hC (l_ocheck (Φ := Φ) (Ψ := fun A v H => v = some (.int (zI i)) ∧ Φ A H) hnt h0 h1 (by omega) (fun A H h => ⟨rfl, h⟩)) (lw_S q495 q496 q66 q497) (by decide +kernel) ⟨(Nat.le_of_ble_eq_true rfl), (Nat.le_of_ble_eq_true rfl)⟩ ⟨(Nat.le_of_ble_eq_true rfl), (Nat.le_of_ble_eq_true rfl)⟩ rfl rfl rfl rfl (Nat.le_of_ble_eq_true rfl) (fun H h => h) dJ2_get_5 (fun v5 => ?_)
  refine J_and (fun e5 => ?_)
  subst e5
  refine J_pop hC dJ2_get_8 rfl ?_
  refine J_aload_n hC dJ2_get_9 rfl ?_
  refine J_iload_n hC dJ2_get_10 rfl ?_
  refine J_callV (n := 1) hC (l_elementData (Φ := Φ) (Ψ := fun A v H => v = some (va_rf (f i.toNat)) ∧ Φ A H) hnt h0 (by omega) h3 ho (fun A H h => ⟨rfl, h⟩)) (lw_V q501 q502 q503 q44 q504) (by decide +kernel) ⟨(Nat.le_of_ble_eq_true rfl), (Nat.le_of_ble_eq_true rfl)⟩ ⟨(Nat.le_of_ble_eq_true rfl), (Nat.le_of_ble_eq_true rfl)⟩ rfl rfl rfl rfl (Nat.le_of_ble_eq_true rfl) (ci := 6) rfl (fun H h => (ho A H h).1) (fun H h => h) dJ2_get_11 (fun v11 => ?_)
  refine J_and (fun e11 => ?_)
  subst e11
  refine J_aret hC (Or.inl ⟨_, rfl⟩) (by cases f i.toNat with | none => exact Or.inl rfl | some x => exact Or.inr ⟨x, rfl⟩) (Nat.le_refl _) (Nat.le_refl _) (fun H h => hΨ A H h) dJ2_get_14
theorem l_newLength {g : jG} {l : Launch} (hnt : l.stackTraces = false) {a b d : Int} {Φ : jPh} {Ψ : jPs} (h0 : 0 ≤ a) (h1 : a < 1000) (h2 : 1 ≤ b) (h3 : b < 1000) (h4 : 0 ≤ d) (h5 : d < 1000) (hΨ : ∀ A H, Φ A H → Ψ A (some (.int (zI (a + max b d)))) H) : jM g l yJ11_newLength (ws_ yJ11_newLength cJ11_newLength 4 (some .int)) (jr 0 0 0) [.int (zI (a)), .int (zI (b)), .int (zI (d))] Φ Ψ := by
  refine jM_of (L0 := [some (.int (zI (a))), some (.int (zI (b))), some (.int (zI (d))), none]) hnt (by decide +kernel) (Nat.le_of_ble_eq_true rfl) rfl rfl ?_
  intro p e s m args below meth c A hC hN
  refine J_iload_n hC dJ11_newLength_0 rfl ?_
  refine J_iload_n hC dJ11_newLength_1 rfl ?_
  refine J_iload_n hC dJ11_newLength_2 rfl ?_
  refine J_mmax hC (zR_mk (by omega) (by omega)) (zR_mk (by omega) (by omega)) q190 q191 q54 q192 rfl (Nat.le_of_ble_eq_true rfl) (Nat.le_of_ble_eq_true rfl) (Nat.le_refl _) (Nat.le_refl _) dJ11_newLength_3 ?_
  refine J_iadd hC dJ11_newLength_6 ?_
  refine J_istore_n (i := 3) hC dJ11_newLength_7 rfl (Nat.le_of_ble_eq_true rfl) ?_
  refine J_iconst hC dJ11_newLength_8 ?_
  refine J_iload_n hC dJ11_newLength_9 rfl ?_
  refine J_icmp_ge (tgt := 21) hC (by first | with_reducible assumption | exact zR_mk (by omega) (by omega)) (by first | with_reducible assumption | exact zR_mk (by omega) (by omega)) dJ11_newLength_10 rfl (fun c10 => ?_) (fun c10 => ?_)
  · exact absurd c10 (by omega)
  · refine J_iload_n hC dJ11_newLength_13 rfl ?_
    refine J_ldc hC q193 (n := 2147483639) (by decide) dJ11_newLength_14 ?_
    refine J_icmp_gt (tgt := 21) hC (by first | with_reducible assumption | exact zR_mk (by omega) (by omega)) (by first | with_reducible assumption | exact zR_mk (by omega) (by omega)) dJ11_newLength_16 rfl (fun c16 => ?_) (fun c16 => ?_)
    · exact absurd c16 (by omega)
    · refine J_iload_n hC dJ11_newLength_19 rfl ?_
      refine J_iret hC (Nat.le_refl _) (Nat.le_refl _) (fun H h => hΨ A H h) dJ11_newLength_20
theorem l_copyOf3 {g : jG} {l : Launch} (hnt : l.stackTraces = false) {mi a0 n0 n1 ci N : Nat} {f : Nat → Option Nat} {Cn : String} {Tb : u_T} {Φ : jPh} {Ψ : jPs} (hc : jcl[ci]? = some (Cn, Tb, N)) (hcast : Cond.castable Cn "java/lang/Object" ∈ lw_tbl) (h4 : n0 ≤ n1) (h5 : n1 ≤ 80) (hmi : ∀ A U, GG g A U → va_Mi "[Ljava/lang/Object;" mi U) (ho : ∀ A H, Φ A H → arq g a0 n0 f H) (hel : ∀ A H, Φ A H → ∀ i : Nat, i < n0 → ∀ y : Nat, f i = some y → ∃ fs : List Value, va_at g.1 jcl (y, .inr (ci, fs)) H) (hΨ : ∀ A H H1 q, Φ A H → A q → H[q]? = none → arq g q n1 (fun j => if j < n0 then f j else none) H1 → (∀ x, x ≠ q → H1[x]? = H[x]?) → Ψ A (some (.ref q)) H1) : jM g l yJ13_copyOf_3 (ws_ yJ13_copyOf_3 cJ13_copyOf_3 4 (some (.array (.object "java/lang/Object")))) (jr 0 1 80) [.ref (a0), .int (zI ((n1 : Int))), .ref (mi)] Φ Ψ := by
  refine jM_of (L0 := [some (.ref (a0)), some (.int (zI ((n1 : Int)))), some (.ref (mi)), none]) hnt (by decide +kernel) (Nat.le_of_ble_eq_true rfl) rfl rfl ?_
  intro p e s m args below meth c A hC hN
  refine J_aload_n hC dJ13_copyOf_3_0 rfl ?_
  refine J_ldcM hC (hmi _ _ (jC_G hC)) q660 dJ13_copyOf_3_1 ?_
  refine J_acmp_ne (tgt := 13) hC dJ13_copyOf_3_3 rfl (fun c3 => ?_) (fun c3 => ?_)
  · exact absurd rfl c3
  · refine J_iload_n hC dJ13_copyOf_3_6 rfl ?_
    refine J_newq hC (Ψ := fun q H1 => ∃ H, Φ A H ∧ A q ∧ H[q]? = none ∧ arq g q n1 (fun _ => none) H1 ∧ ∀ x, x ≠ q → H1[x]? = H[x]?) q661 rfl (by omega) (Nat.le_refl _) (by show 0 + n1 ≤ 80; omega) (fun H H1 q h hA hn h1 ho => ⟨H, h, hA, hn, h1, ho⟩) dJ13_copyOf_3_7 (fun q => ?_)
    refine J_widen (k := 1) (n := 80) (Nat.le_refl _) (by omega) ?_
    refine J_goto (tgt := 24) hC dJ13_copyOf_3_10 rfl ?_
    refine J_astore_n (i := 3) hC dJ13_copyOf_3_24 rfl (Nat.le_of_ble_eq_true rfl) ?_
    refine J_aload_n hC dJ13_copyOf_3_25 rfl ?_
    refine J_iconst hC dJ13_copyOf_3_26 ?_
    refine J_aload_n hC dJ13_copyOf_3_27 rfl ?_
    refine J_iconst hC dJ13_copyOf_3_28 ?_
    refine J_aload_n hC dJ13_copyOf_3_29 rfl ?_
    refine J_alen hC (t0 := 3) rfl (fun H h => by obtain ⟨H0, h0, hA, hn, h1, hx⟩ := h; exact (ho A H0 h0).kept (hx a0 (fun e9 => by rw [← e9] at hn; have := (Array.getElem?_eq_some_iff.mp (ho A H0 h0)).1; rw [Array.getElem?_eq_none_iff] at hn; omega))) dJ13_copyOf_3_30 ?_
    refine J_iload_n hC dJ13_copyOf_3_31 rfl ?_
    refine J_mmin hC (zR_mk (by omega) (by omega)) (zR_mk (by omega) (by omega)) q208 q209 q54 q210 rfl (Nat.le_of_ble_eq_true rfl) (Nat.le_of_ble_eq_true rfl) (Nat.le_refl _) (Nat.le_refl _) dJ13_copyOf_3_32 ?_
    rw [Int.min_eq_left (by omega)]
    refine J_copyq hC (Φ1 := fun H1 => ∃ H, Φ A H ∧ A q ∧ H[q]? = none ∧ arq g q n1 (fun j => if j < n0 then f j else none) H1 ∧ ∀ x, x ≠ q → H1[x]? = H[x]?) (f := f) (h := fun _ => none) q211 q213 q212 q56 hc hcast (Nat.le_refl _) h4 (by omega) (fun H h => by obtain ⟨H0, h0, hA, hn, h1, hx⟩ := h; exact ⟨(ho A H0 h0).kept (hx a0 (fun e9 => by rw [← e9] at hn; have := (Array.getElem?_eq_some_iff.mp (ho A H0 h0)).1; rw [Array.getElem?_eq_none_iff] at hn; omega)), h1, hA⟩) (fun H h i hi y hy => by obtain ⟨H0, h0, hA, hn, h1, hx⟩ := h; obtain ⟨fs, h3⟩ := hel A H0 h0 i hi y hy; exact ⟨fs, h3.kept (hx y (fun e9 => by rw [← e9] at hn; have := h3.lt; rw [Array.getElem?_eq_none_iff] at hn; omega))⟩) (fun H H1 h h1 hz oq => by obtain ⟨H0, h0, hA, hn, h2, hx⟩ := h; exact ⟨H0, h0, hA, hn, h1, fun x hq => (oq x hq).trans (hx x hq)⟩) rfl (Nat.le_of_ble_eq_true rfl) (by decide +kernel) dJ13_copyOf_3_35 ?_
    refine J_aload_n hC dJ13_copyOf_3_38 rfl ?_
    refine J_aret hC (Or.inr ⟨_, rfl⟩) (Or.inr ⟨_, rfl⟩) (Nat.le_refl _) (Nat.le_refl _) (fun H1 h => by obtain ⟨H0, h0, hA, hn, h2, hx⟩ := h; exact hΨ A H0 H1 q h0 hA hn h2 hx) dJ13_copyOf_3_39
