/-! THE MODEL's paragraphs as plain ones; what a line's search needs of places and lengths -/
set_option maxRecDepth 100000
def mq (F : mF) (p : Int) : PQ := (F 5 p, fun k => F 8 (F 6 (60 * p + k)), fun k j => F 11 (16 * F 6 (60 * p + k) + j), F 1 0)
theorem mq_N (F : mF) (p : Int) : pN (mq F p) = F 5 p := rfl
theorem mq_L (F : mF) (p k : Int) : pL (mq F p) k = F 8 (F 6 (60 * p + k)) := rfl
theorem mq_S (F : mF) (p k j : Int) : pS (mq F p) k j = F 11 (16 * F 6 (60 * p + k) + j) := rfl
theorem mq_W (F : mF) (p : Int) : pW (mq F p) = F 1 0 := rfl
/-- a paragraph's cells are as they must be -/
def mOk (F : mF) (p : Int) : Prop := (0 ≤ p ∧ p < 6) ∧ (0 ≤ F 5 p ∧ F 5 p ≤ 60) ∧ (∀ k, 0 ≤ k → k < F 5 p → (0 ≤ F 6 (60 * p + k) ∧ F 6 (60 * p + k) < 60) ∧ (1 ≤ F 8 (F 6 (60 * p + k)) ∧ F 8 (F 6 (60 * p + k)) ≤ 15)) ∧ (10 ≤ F 1 0 ∧ F 1 0 ≤ 60) ∧ ∀ j, 0 ≤ j → j < 960 → -100 ≤ F 11 j ∧ F 11 j ≤ 100
theorem mOk_p {F : mF} {p : Int} (h : mOk F p) : pOk (mq F p) := ⟨h.2.1.1, h.2.1.2, fun k a b => (h.2.2.1 k a b).2, h.2.2.2.1⟩
/-- scratch: thrown, the marks, least, next, linesIn -/
def sEq (F F' : mF) : Prop := ∀ k, k ≠ 0 → k ≠ 12 → k ≠ 14 → k ≠ 15 → k ≠ 16 → F' k = F k
theorem sEq_rf (F : mF) : sEq F F := fun _ _ _ _ _ _ => rfl
theorem sEq_tr {F F' F'' : mF} (h : sEq F F') (h' : sEq F' F'') : sEq F F'' := fun k a b c d e => (h' k a b c d e).trans (h k a b c d e)
theorem sEq_up {F F' : mF} {k : Nat} {i v : Int} (h : sEq F F') (hk : k = 0 ∨ k = 12 ∨ k = 14 ∨ k = 15 ∨ k = 16) : sEq F (upF F' k i v) := fun k' a b c d e => by
  rw [upF_k F' i v (by omega)]
  exact h k' a b c d e
theorem sEq_mq {F F' : mF} (h : sEq F F') (p : Int) : mq F' p = mq F p := by
  unfold mq
  rw [h 5 (by decide) (by decide) (by decide) (by decide) (by decide), h 8 (by decide) (by decide) (by decide) (by decide) (by decide), h 6 (by decide) (by decide) (by decide) (by decide) (by decide), h 11 (by decide) (by decide) (by decide) (by decide) (by decide), h 1 (by decide) (by decide) (by decide) (by decide) (by decide)]
theorem sEq_mOk {F F' : mF} (h : sEq F F') {p : Int} (hp : mOk F p) : mOk F' p := by
  unfold mOk
  rw [h 5 (by decide) (by decide) (by decide) (by decide) (by decide), h 8 (by decide) (by decide) (by decide) (by decide) (by decide), h 6 (by decide) (by decide) (by decide) (by decide) (by decide), h 11 (by decide) (by decide) (by decide) (by decide) (by decide), h 1 (by decide) (by decide) (by decide) (by decide) (by decide)]
  exact hp
/-- one place's least and next are set -/
def fF (F : mF) (t a b : Int) : mF := upF (upF F 14 t a) 15 t b
theorem fF_at (F : mF) (t a b : Int) : fF F t a b 14 t = a := by
  unfold fF
  rw [upF_k _ t b (by decide), upF_self]
theorem fF_ne (F : mF) {t u : Int} (a b : Int) (h : u ≠ t) : fF F t a b 14 u = F 14 u := by
  unfold fF
  rw [upF_k _ t b (by decide), upF_j _ _ _ h]
theorem fF_0 (F : mF) (t a : Int) : upF F 14 t a = fF F t a (F 15 t) := by
  funext k j
  unfold fF upF
  by_cases h : k = 15 ∧ j = t
  · rw [if_pos h, h.1, h.2, if_neg (by intro q; exact absurd q.1 (by decide))]
  · rw [if_neg h]
theorem fF_1 (F : mF) (t a b a' b' : Int) : upF (upF (fF F t a b) 14 t a') 15 t b' = fF F t a' b' := by
  funext k j
  unfold fF upF
  by_cases h : k = 15 ∧ j = t
  · rw [if_pos h, if_pos h]
  · rw [if_neg h, if_neg h]
    by_cases h2 : k = 14 ∧ j = t
    · rw [if_pos h2, if_pos h2, if_neg h]
    · rw [if_neg h2, if_neg h, if_neg h2, if_neg h2]
theorem fF_14 (F : mF) (t a b : Int) : fF F t a b 14 = upI (F 14) t a := by
  unfold fF
  rw [upF_k _ t b (by decide), upF_row]
theorem fF_15 (F : mF) (t a b : Int) : fF F t a b 15 = upI (F 15) t b := by
  unfold fF
  rw [upF_row, upF_k _ t a (by decide)]
theorem fF_k (F : mF) (t a b : Int) {k : Nat} (h1 : k ≠ 14) (h2 : k ≠ 15) : fF F t a b k = F k := by
  unfold fF
  rw [upF_k _ t b h2, upF_k _ t a h1]
theorem sEq_fF (F : mF) (t a b : Int) : sEq F (fF F t a b) := fun k _ _ h3 h4 _ => fF_k F t a b h3 h4
theorem fl_in {q : PQ} {t fr pl k e0 : Int} (ht : t = 16 * fr + pl) (h1 : 0 ≤ pl) (h2 : pl < 16) (h3 : 0 < e0) (h4 : e0 < 16) : len q t (16 * k + e0) = sI (pL q) k - sI (pL q) fr - pl + (k - fr) + e0 + 1 := by
  unfold len pos1 pos0
  have e1 : t / 16 = fr := by omega
  have e2 : t % 16 = pl := by omega
  have e3 : (16 * k + e0) / 16 = k := by omega
  have e4 : (16 * k + e0) % 16 = e0 := by omega
  rw [e1, e2, e3, e4, if_pos h3]
  omega
theorem fl_out {q : PQ} {t fr pl k : Int} (ht : t = 16 * fr + pl) (h1 : 0 ≤ pl) (h2 : pl < 16) (hk : 0 ≤ k) : len q t (16 * (k + 1)) = sI (pL q) k - sI (pL q) fr - pl + (k - fr) + pL q k := by
  unfold len pos1 pos0
  have e1 : t / 16 = fr := by omega
  have e2 : t % 16 = pl := by omega
  have e3 : (16 * (k + 1)) / 16 = k + 1 := by omega
  have e4 : (16 * (k + 1)) % 16 = 0 := by omega
  rw [e1, e2, e3, e4, if_neg (by decide), sI_succ _ hk]
  omega
theorem sp_in {q : PQ} {k e0 : Int} (hk : 0 ≤ k) (hkN : k < pN q) (h1 : 0 < e0) (h2 : e0 < pL q k) (h3 : e0 < 16) (h4 : 0 < pS q k e0) : isSp q (16 * k + e0) := by
  have e3 : (16 * k + e0) / 16 = k := by omega
  have e4 : (16 * k + e0) % 16 = e0 := by omega
  exact Or.inl ⟨by omega, by omega, Or.inr (by rw [e3, e4]; exact ⟨h2, h4⟩)⟩
theorem sp_word {q : PQ} {k : Int} (hk : 0 ≤ k) (hkN : k ≤ pN q) : isSp q (16 * k) := by
  by_cases h : k = pN q
  · rw [h]; exact isSp_end q
  · exact Or.inl ⟨by omega, by omega, Or.inl (by omega)⟩
theorem nsp_in {q : PQ} {k e0 : Int} (hk : 0 ≤ k) (hkN : k < pN q) (h1 : 0 < e0) (h3 : e0 < 16) (h4 : ¬ (e0 < pL q k ∧ 0 < pS q k e0)) : ¬ isSp q (16 * k + e0) := by
  have e3 : (16 * k + e0) / 16 = k := by omega
  have e4 : (16 * k + e0) % 16 = e0 := by omega
  rintro (⟨-, -, h | h⟩ | h)
  · omega
  · rw [e3, e4] at h
    exact h4 h
  · omega
theorem nsp_rest {q : PQ} {k u : Int} (hk : 0 ≤ k) (hkN : k < pN q) (hL : 1 ≤ pL q k) (h1 : 16 * k + pL q k - 1 < u) (h2 : u < 16 * (k + 1)) : ¬ isSp q u := by
  have e3 : u / 16 = k := by omega
  rintro (⟨-, -, h | h⟩ | h)
  · omega
  · rw [e3] at h
    omega
  · omega
/-- what the model's badness of a line is, as a line's cost -/
theorem bad_in {w ln t n : Int} (h : t ≠ n) (hm : 0 < t % 16) : bad w ln t n = (if ln ≤ w then (w - ln) * (w - ln) else 10000) + 30 := by
  unfold bad hy
  rw [if_pos hm, if_neg h]
  split <;> rfl
theorem bad_word {w ln t n : Int} (h : t ≠ n) (hm : t % 16 = 0) : bad w ln t n = (if ln ≤ w then (w - ln) * (w - ln) else 10000) + 0 := by
  unfold bad hy
  rw [if_neg (show ¬ 0 < t % 16 by omega), if_neg h]
  split <;> omega
theorem bad_last {w ln t n : Int} (h : t = n) (hm : t % 16 = 0) : bad w ln t n = if ln ≤ w then 0 else 10000 := by
  unfold bad hy
  rw [if_neg (show ¬ 0 < t % 16 by omega), if_pos h]
  split <;> rfl
