/-! PLAIN LAW: line ends, and marks that show them -/
set_option maxRecDepth 100000
def mpos (k j : Int) : Int := if j = 0 then 16 * (k + 1) else 16 * k + j
def vEnd (q : PQ) (t : Int) : Prop := t % 16 = 0 ∨ t % 16 < pL q (t / 16)
def Ln (q : PQ) (b : Int → Int) (n : Int) : Prop := 0 ≤ n ∧ b 0 = 0 ∧ b n = 16 * pN q ∧ ∀ i, 0 ≤ i → i < n → b i < b (i + 1) ∧ vEnd q (b (i + 1))
def Mk (q : PQ) (E : Int → Int → Int) (b : Int → Int) (n : Int) : Prop := ∀ k j, 0 ≤ k → k < pN q → 0 ≤ j → j < 16 → (E k j = 1 ∧ ∃ i, 0 ≤ i ∧ i < n ∧ b (i + 1) = mpos k j) ∨ (E k j = 0 ∧ ∀ i, 0 ≤ i → i < n → b (i + 1) ≠ mpos k j)
def lnAt (b : Int → Int) (n m t : Int) : Prop := 0 ≤ m ∧ m ≤ n ∧ b m ≤ t ∧ (m < n → t < b (m + 1))
theorem Ln_mono {q : PQ} {b : Int → Int} {n : Int} (h : Ln q b n) {i j : Int} (hi : 0 ≤ i) (hij : i < j) (hj : j ≤ n) : b i < b j := by
  have key : ∀ d, 0 ≤ d → i + 1 + d ≤ n → b i < b (i + 1 + d) := fun d hd => by
    refine int_ind (P := fun d => i + 1 + d ≤ n → b i < b (i + 1 + d)) (fun hn => ?_) (fun e he ih hn => ?_) d hd
    · rw [Int.add_zero]
      exact (h.2.2.2 i hi (by omega)).1
    · have h1 := ih (by omega)
      have h2 := (h.2.2.2 (i + 1 + e) (by omega) (by omega)).1
      rw [show i + 1 + (e + 1) = i + 1 + e + 1 by omega]
      omega
  have := key (j - (i + 1)) (by omega) (by omega)
  rwa [show i + 1 + (j - (i + 1)) = j by omega] at this
theorem Ln_le {q : PQ} {b : Int → Int} {n : Int} (h : Ln q b n) {i j : Int} (hi : 0 ≤ i) (hij : i ≤ j) (hj : j ≤ n) : b i ≤ b j := by
  by_cases e : i = j
  · rw [e]; exact Int.le_refl _
  · exact Int.le_of_lt (Ln_mono h hi (by omega) hj)
theorem Ln_bd {q : PQ} {b : Int → Int} {n : Int} (h : Ln q b n) {i : Int} (hi : 0 ≤ i) (hin : i ≤ n) : 0 ≤ b i ∧ b i ≤ 16 * pN q ∧ (0 < i → 0 < b i) ∧ (i < n → b i < 16 * pN q) := by
  have h1 := Ln_le h (Int.le_refl 0) hi hin
  have h2 := Ln_le h hi hin (Int.le_refl n)
  rw [h.2.1] at h1
  rw [h.2.2.1] at h2
  refine ⟨h1, h2, fun h3 => ?_, fun h3 => ?_⟩
  · have := Ln_mono h (Int.le_refl 0) h3 hin
    rwa [h.2.1] at this
  · have := Ln_mono h hi h3 (Int.le_refl n)
    rwa [h.2.2.1] at this
theorem lnAt_0 {q : PQ} {b : Int → Int} {n : Int} (h : Ln q b n) : lnAt b n 0 0 := ⟨Int.le_refl 0, h.1, by rw [h.2.1]; exact Int.le_refl 0, fun h1 => by
  have := (h.2.2.2 0 (Int.le_refl 0) h1).1
  rwa [h.2.1] at this⟩
theorem lnAt_yes {q : PQ} {b : Int → Int} {n m t i : Int} (h : Ln q b n) (ha : lnAt b n m t) (hi : 0 ≤ i) (hin : i < n) (he : b (i + 1) = t + 1) : lnAt b n (m + 1) (t + 1) ∧ m < n ∧ b (m + 1) = t + 1 := by
  obtain ⟨a1, a2, a3, a4⟩ := ha
  have hmi : i = m := by
    rcases Int.lt_trichotomy i m with z | z | z
    · have := Ln_le h (i := i + 1) (j := m) (by omega) (by omega) a2
      omega
    · exact z
    · have h1 := a4 (by omega)
      have h2 := Ln_le h (i := m + 1) (j := i) (by omega) (by omega) (by omega)
      have h3 := (h.2.2.2 i hi hin).1
      omega
  subst hmi
  refine ⟨⟨by omega, by omega, by omega, fun h1 => ?_⟩, hin, he⟩
  have h3 := (h.2.2.2 (i + 1) (by omega) h1).1
  omega
theorem lnAt_no {b : Int → Int} {n m t : Int} (ha : lnAt b n m t) (hn : ∀ i, 0 ≤ i → i < n → b (i + 1) ≠ t + 1) : lnAt b n m (t + 1) := by
  obtain ⟨a1, a2, a3, a4⟩ := ha
  exact ⟨a1, a2, by omega, fun h => by have := a4 h; have := hn m a1 h; omega⟩
theorem lnAt_uniq {q : PQ} {b : Int → Int} {n m m' t : Int} (h : Ln q b n) (h1 : lnAt b n m t) (h2 : lnAt b n m' t) : m = m' := by
  obtain ⟨a1, a2, a3, a4⟩ := h1
  obtain ⟨c1, c2, c3, c4⟩ := h2
  rcases Int.lt_trichotomy m m' with z | z | z
  · have e1 := a4 (by omega)
    have e2 := Ln_le h (i := m + 1) (j := m') (by omega) (by omega) c2
    omega
  · exact z
  · have e1 := c4 (by omega)
    have e2 := Ln_le h (i := m' + 1) (j := m) (by omega) (by omega) a2
    omega
theorem lnAt_end {q : PQ} {b : Int → Int} {n m : Int} (h : Ln q b n) (h1 : lnAt b n m (16 * pN q)) : m = n := by
  obtain ⟨a1, a2, a3, a4⟩ := h1
  rcases Int.lt_or_le m n with z | z
  · have e1 := a4 z
    have e2 := (Ln_bd h (i := m + 1) (by omega) (by omega)).2.1
    omega
  · omega
/-- one step by a mark -/
theorem lnAt_mk {q : PQ} {E : Int → Int → Int} {b : Int → Int} {n m t k j : Int} (h : Ln q b n) (hM : Mk q E b n) (ha : lnAt b n m t) (hk : 0 ≤ k) (hkN : k < pN q) (hj : 0 ≤ j) (hj2 : j < 16) (ht : mpos k j = t + 1) : lnAt b n (m + E k j) (t + 1) := by
  rcases hM k j hk hkN hj hj2 with ⟨e, i, i1, i2, i3⟩ | ⟨e, hn⟩
  · rw [e]
    exact (lnAt_yes h ha i1 i2 (i3.trans ht)).1
  · rw [e, Int.add_zero]
    exact lnAt_no ha (fun i i1 i2 z => hn i i1 i2 (z.trans ht.symm))
theorem lnAt_part {q : PQ} {E : Int → Int → Int} {b : Int → Int} {n m k : Int} (h : Ln q b n) (hM : Mk q E b n) (ha : lnAt b n m (16 * k)) (hk : 0 ≤ k) (hkN : k < pN q) : ∀ d, 0 ≤ d → d ≤ 15 → lnAt b n (m + (sI (E k) (d + 1) - E k 0)) (16 * k + d) := by
  refine fun d hd => int_ind (P := fun d => d ≤ 15 → lnAt b n (m + (sI (E k) (d + 1) - E k 0)) (16 * k + d)) (fun _ => ?_) (fun e he ih hn => ?_) d hd
  · rw [show (0 : Int) + 1 = 0 + 1 from rfl, sI_succ _ (Int.le_refl 0), sI_0, Int.add_zero]
    rw [show m + (0 + E k 0 - E k 0) = m by omega]
    exact ha
  · have h1 := lnAt_mk (j := e + 1) h hM (ih (by omega)) hk hkN (by omega) (by omega) (by unfold mpos; rw [if_neg (by omega)]; omega)
    rw [sI_succ _ (show 0 ≤ e + 1 by omega), show 16 * k + (e + 1) = 16 * k + e + 1 by omega]
    rw [show m + (sI (E k) (e + 1) + E k (e + 1) - E k 0) = m + (sI (E k) (e + 1) - E k 0) + E k (e + 1) by omega]
    exact h1
theorem lnAt_word {q : PQ} {E : Int → Int → Int} {b : Int → Int} {n m k : Int} (h : Ln q b n) (hM : Mk q E b n) (ha : lnAt b n m (16 * k)) (hk : 0 ≤ k) (hkN : k < pN q) : lnAt b n (m + sI (E k) 16) (16 * (k + 1)) := by
  have h1 := lnAt_part h hM ha hk hkN 15 (by omega) (by omega)
  have h2 := lnAt_mk (j := 0) h hM h1 hk hkN (by omega) (by omega) (by unfold mpos; rw [if_pos rfl]; omega)
  rw [show 16 * (k + 1) = 16 * k + 15 + 1 by omega]
  rw [show m + sI (E k) 16 = m + (sI (E k) (15 + 1) - E k 0) + E k 0 by rw [show (15 : Int) + 1 = 16 from rfl]; omega]
  exact h2
theorem lnAt_words {q : PQ} {E : Int → Int → Int} {b : Int → Int} {n : Int} (h : Ln q b n) (hM : Mk q E b n) : ∀ i, 0 ≤ i → i ≤ pN q → lnAt b n (sI (fun k => sI (E k) 16) i) (16 * i) := by
  refine fun i hi => int_ind (P := fun i => i ≤ pN q → lnAt b n (sI (fun k => sI (E k) 16) i) (16 * i)) (fun _ => by rw [sI_0, Int.mul_zero]; exact lnAt_0 h) (fun k hk ih hkN => ?_) i hi
  rw [sI_succ _ hk]
  exact lnAt_word h hM (ih (by omega)) hk (by omega)
theorem mk_total {q : PQ} (hq : pOk q) {E : Int → Int → Int} {b : Int → Int} {n : Int} (h : Ln q b n) (hM : Mk q E b n) : sI (fun k => sI (E k) 16) (pN q) = n := lnAt_end h (lnAt_words h hM _ hq.1 (Int.le_refl _))
theorem mpos_of {N t : Int} (h1 : 0 < t) (h2 : t ≤ 16 * N) : ∃ k j, 0 ≤ k ∧ k < N ∧ 0 ≤ j ∧ j < 16 ∧ mpos k j = t := by
  by_cases h : t % 16 = 0
  · exact ⟨t / 16 - 1, 0, by omega, by omega, by omega, by omega, by unfold mpos; rw [if_pos rfl]; omega⟩
  · exact ⟨t / 16, t % 16, by omega, by omega, by omega, by omega, by unfold mpos; rw [if_neg h]; omega⟩
/-- marks show one row of line ends -/
theorem mk_uniq {q : PQ} (hq : pOk q) {E : Int → Int → Int} {b b' : Int → Int} {n n' : Int} (h : Ln q b n) (hM : Mk q E b n) (h' : Ln q b' n') (hM' : Mk q E b' n') : n = n' ∧ ∀ i, 0 ≤ i → i ≤ n → b i = b' i := by
  have en : n = n' := (mk_total hq h hM).symm.trans (mk_total hq h' hM')
  subst en
  have half : ∀ {b b' : Int → Int}, Ln q b n → Mk q E b n → Ln q b' n → Mk q E b' n → ∀ i, 0 ≤ i → i < n → b i = b' i → b' (i + 1) ≤ b (i + 1) := by
    intro b b' h hM h' hM' i hi hin e
    have hb := Ln_bd h (i := i + 1) (by omega) (by omega)
    obtain ⟨k, j, k1, k2, j1, j2, ej⟩ := mpos_of (hb.2.2.1 (by omega)) hb.2.1
    have hE : E k j = 1 := by
      rcases hM k j k1 k2 j1 j2 with ⟨z, -⟩ | ⟨-, z⟩
      · exact z
      · exact absurd ej.symm (z i hi hin)
    rcases hM' k j k1 k2 j1 j2 with ⟨-, i', i1, i2, i3⟩ | ⟨z, -⟩
    · have h1 := (h.2.2.2 i hi hin).1
      have h2 : i ≤ i' := by
        rcases Int.lt_or_le i' i with z | z
        · have := Ln_le h' (i := i' + 1) (j := i) (by omega) (by omega) (by omega)
          omega
        · exact z
      have := Ln_le h' (i := i + 1) (j := i' + 1) (by omega) (by omega) (by omega)
      omega
    · omega
  refine ⟨rfl, fun i hi => int_ind (P := fun i => i ≤ n → b i = b' i) (fun _ => h.2.1.trans h'.2.1.symm) (fun k hk ih hkN => ?_) i hi⟩
  have e := ih (by omega)
  have h1 := half h hM h' hM' k hk (by omega) e
  have h2 := half h' hM' h hM k hk (by omega) e.symm
  omega
/-- the lines of a paragraph as they are best now -/
def LnU (q : PQ) (b : Int → Int) (n : Int) : Prop := ∃ ls nx, best q ls nx ∧ 0 ≤ n ∧ b 0 = 0 ∧ b n = 16 * pN q ∧ ∀ i, 0 ≤ i → i < n → b i < 16 * pN q ∧ b (i + 1) = nx (b i)
theorem chain_sp {q : PQ} (hq : pOk q) {ls nx : Int → Int} (hB : best q ls nx) {b : Int → Int} {n : Int} (h0 : b 0 = 0) (hs : ∀ i, 0 ≤ i → i < n → b i < 16 * pN q ∧ b (i + 1) = nx (b i)) : ∀ i, 0 ≤ i → i ≤ n → isSp q (b i) := by
  refine fun i hi => int_ind (P := fun i => i ≤ n → isSp q (b i)) (fun _ => ?_) (fun k hk ih hkn => ?_) i hi
  · rw [h0]
    have := hq.1
    by_cases z : pN q = 0
    · exact Or.inr (by omega)
    · exact Or.inl ⟨by omega, by omega, Or.inl (by omega)⟩
  · obtain ⟨e1, e2⟩ := hs k hk (by omega)
    rw [e2]
    exact (hB.2 _ (ih (by omega)) e1).1.1
theorem LnU_Ln {q : PQ} (hq : pOk q) {b : Int → Int} {n : Int} (h : LnU q b n) : Ln q b n := by
  obtain ⟨ls, nx, hB, h1, h2, h3, h4⟩ := h
  refine ⟨h1, h2, h3, fun i hi hin => ?_⟩
  obtain ⟨e1, e2⟩ := h4 i hi hin
  have hs := chain_sp hq hB h2 h4 i hi (by omega)
  have hs' := chain_sp hq hB h2 h4 (i + 1) (by omega) (by omega)
  refine ⟨by rw [e2]; exact (hB.2 _ hs e1).1.2.1, ?_⟩
  rcases hs' with ⟨-, -, z | z⟩ | z
  · exact Or.inl z
  · exact Or.inr z.1
  · exact Or.inl (by omega)
theorem LnU_uniq {q : PQ} (hq : pOk q) {b b' : Int → Int} {n n' : Int} (h : LnU q b n) (h' : LnU q b' n') : n = n' ∧ ∀ i, 0 ≤ i → i ≤ n → b i = b' i := by
  obtain ⟨ls, nx, hB, h1, h2, h3, h4⟩ := h
  obtain ⟨ls', nx', hB', h1', h2', h3', h4'⟩ := h'
  have key : ∀ i, 0 ≤ i → i ≤ n → i ≤ n' → b i = b' i := by
    refine fun i hi => int_ind (P := fun i => i ≤ n → i ≤ n' → b i = b' i) (fun _ _ => h2.trans h2'.symm) (fun k hk ih a c => ?_) i hi
    have e := ih (by omega) (by omega)
    obtain ⟨e1, e2⟩ := h4 k hk (by omega)
    obtain ⟨e3, e4⟩ := h4' k hk (by omega)
    have hs := chain_sp hq hB h2 h4 k hk (by omega)
    rw [e2, e4, ← e]
    exact (best_uniq hq hB hB' _ hs).2 e1
  have en : n = n' := by
    rcases Int.lt_trichotomy n n' with z | z | z
    · have e := key n h1 (Int.le_refl _) (by omega)
      have := (h4' n h1 z).1
      omega
    · exact z
    · have e := key n' h1' (by omega) (Int.le_refl _)
      have := (h4 n' h1' z).1
      omega
  exact ⟨en, fun i a c => key i a c (by omega)⟩
/-- where the model says that a line ends: a whole word's letters behind it -/
def endc (q : PQ) (t : Int) : Int := if 0 < t % 16 then t else 16 * (t / 16 - 1) + pL q (t / 16 - 1)
/-- the marks of a state's paragraph, in a row (12: now, 13: kept) -/
def mRow (F : mF) (r : Nat) (p : Int) : Int → Int → Int := fun k j => F r (16 * F 6 (60 * p + k) + j)
/-- a paragraph's lines, as a state has them -/
def LinesOf (F : mF) (p : Int) (b : Int → Int) (n : Int) : Prop := (F 4 p = 1 ∧ Ln (mq F p) b n ∧ Mk (mq F p) (mRow F 13 p) b n) ∨ (F 4 p = 0 ∧ LnU (mq F p) b n)
theorem LinesOf_Ln {F : mF} {p : Int} (hq : pOk (mq F p)) {b : Int → Int} {n : Int} (h : LinesOf F p b n) : Ln (mq F p) b n := by
  rcases h with ⟨-, h, -⟩ | ⟨-, h⟩
  · exact h
  · exact LnU_Ln hq h
theorem LinesOf_uniq {F : mF} {p : Int} (hq : pOk (mq F p)) {b b' : Int → Int} {n n' : Int} (h : LinesOf F p b n) (h' : LinesOf F p b' n') : n = n' ∧ ∀ i, 0 ≤ i → i ≤ n → b i = b' i := by
  rcases h with ⟨z, h, hM⟩ | ⟨z, h⟩ <;> rcases h' with ⟨z', h', hM'⟩ | ⟨z', h'⟩
  · exact mk_uniq hq h hM h' hM'
  · omega
  · omega
  · exact LnU_uniq hq h h'
theorem Ln_n {q : PQ} {b : Int → Int} {n : Int} (h : Ln q b n) : n ≤ 16 * pN q := by
  have key : ∀ i, 0 ≤ i → i ≤ n → i ≤ b i := by
    refine fun i hi => int_ind (P := fun i => i ≤ n → i ≤ b i) (fun _ => by rw [h.2.1]; exact Int.le_refl 0) (fun k hk ih hkn => ?_) i hi
    have h1 := ih (by omega)
    have h2 := (h.2.2.2 k hk (by omega)).1
    omega
  have := key n h.1 (Int.le_refl n)
  rw [h.2.2.1] at this
  exact this
