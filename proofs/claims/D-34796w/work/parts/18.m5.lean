/-! THE MODEL's invariant; lines by paragraph -/
set_option maxRecDepth 100000
def mI (F : mF) : Prop :=
  (10 ≤ F 1 0 ∧ F 1 0 ≤ 60) ∧ (3 ≤ F 2 0 ∧ F 2 0 ≤ 20) ∧ (0 ≤ F 3 0 ∧ F 3 0 ≤ 6) ∧ (0 ≤ F 7 0 ∧ F 7 0 ≤ 60) ∧ (0 ≤ F 17 0 ∧ F 17 0 ≤ 30) ∧
  ((∀ p, 0 ≤ p → p < 6 → 0 ≤ F 5 p) ∧ F 5 0 + F 5 1 + F 5 2 + F 5 3 + F 5 4 + F 5 5 = F 7 0 ∧ ∀ p, F 3 0 ≤ p → p < 6 → F 5 p = 0 ∧ F 4 p = 0) ∧
  (∀ p k, 0 ≤ p → p < 6 → 0 ≤ k → k < F 5 p → 0 ≤ F 6 (60 * p + k) ∧ F 6 (60 * p + k) < F 7 0 ∧ F 10 (F 6 (60 * p + k)) = k ∧ F 9 (F 6 (60 * p + k)) = p) ∧
  (∀ w, 0 ≤ w → w < F 7 0 → 1 ≤ F 8 w ∧ F 8 w ≤ 15 ∧ 0 ≤ F 9 w ∧ F 9 w < F 3 0 ∧ 0 ≤ F 10 w ∧ F 10 w < F 5 (F 9 w) ∧ F 6 (60 * F 9 w + F 10 w) = w) ∧
  (∀ j, -100 ≤ F 11 j ∧ F 11 j ≤ 100) ∧ mB F ∧ (∀ p, 0 ≤ p → p < 6 → mKept F p) ∧
  ∀ e, 0 ≤ e → e < F 17 0 → 0 ≤ F 18 e ∧ F 18 e ≤ 4 ∧ 0 ≤ F 19 e ∧ F 19 e < F 7 0 ∧ 0 ≤ F 20 e ∧ F 20 e ≤ 2
theorem mI_width {F : mF} (h : mI F) : 10 ≤ F 1 0 ∧ F 1 0 ≤ 60 := h.1
theorem mI_height {F : mF} (h : mI F) : 3 ≤ F 2 0 ∧ F 2 0 ≤ 20 := h.2.1
theorem mI_np {F : mF} (h : mI F) : 0 ≤ F 3 0 ∧ F 3 0 ≤ 6 := h.2.2.1
theorem mI_nw {F : mF} (h : mI F) : 0 ≤ F 7 0 ∧ F 7 0 ≤ 60 := h.2.2.2.1
theorem mI_ne {F : mF} (h : mI F) : 0 ≤ F 17 0 ∧ F 17 0 ≤ 30 := h.2.2.2.2.1
theorem mI_many {F : mF} (h : mI F) {p : Int} (h1 : 0 ≤ p) (h2 : p < 6) : 0 ≤ F 5 p ∧ F 5 p ≤ F 7 0 := by
  obtain ⟨a, b, -⟩ := h.2.2.2.2.2.1
  have a0 := a 0 (by decide) (by decide)
  have a1 := a 1 (by decide) (by decide)
  have a2 := a 2 (by decide) (by decide)
  have a3 := a 3 (by decide) (by decide)
  have a4 := a 4 (by decide) (by decide)
  have a5 := a 5 (by decide) (by decide)
  rcases (show p = 0 ∨ p = 1 ∨ p = 2 ∨ p = 3 ∨ p = 4 ∨ p = 5 by omega) with e | e | e | e | e | e <;> subst e <;> omega
theorem mI_word {F : mF} (h : mI F) {p k : Int} (h1 : 0 ≤ p) (h2 : p < 6) (h3 : 0 ≤ k) (h4 : k < F 5 p) : 0 ≤ F 6 (60 * p + k) ∧ F 6 (60 * p + k) < F 7 0 ∧ F 10 (F 6 (60 * p + k)) = k ∧ F 9 (F 6 (60 * p + k)) = p := h.2.2.2.2.2.2.1 p k h1 h2 h3 h4
theorem mI_w {F : mF} (h : mI F) {w : Int} (h1 : 0 ≤ w) (h2 : w < F 7 0) : 1 ≤ F 8 w ∧ F 8 w ≤ 15 ∧ 0 ≤ F 9 w ∧ F 9 w < F 3 0 ∧ 0 ≤ F 10 w ∧ F 10 w < F 5 (F 9 w) ∧ F 6 (60 * F 9 w + F 10 w) = w := h.2.2.2.2.2.2.2.1 w h1 h2
theorem mI_score {F : mF} (h : mI F) (j : Int) : -100 ≤ F 11 j ∧ F 11 j ≤ 100 := h.2.2.2.2.2.2.2.2.1 j
theorem mI_B {F : mF} (h : mI F) : mB F := h.2.2.2.2.2.2.2.2.2.1
theorem mI_kept {F : mF} (h : mI F) {p : Int} (h1 : 0 ≤ p) (h2 : p < 6) : mKept F p := h.2.2.2.2.2.2.2.2.2.2.1 p h1 h2
theorem mI_err {F : mF} (h : mI F) {e : Int} (h1 : 0 ≤ e) (h2 : e < F 17 0) : 0 ≤ F 18 e ∧ F 18 e ≤ 4 ∧ 0 ≤ F 19 e ∧ F 19 e < F 7 0 ∧ 0 ≤ F 20 e ∧ F 20 e ≤ 2 := h.2.2.2.2.2.2.2.2.2.2.2 e h1 h2
theorem mI_mOk {F : mF} (h : mI F) {p : Int} (h1 : 0 ≤ p) (h2 : p < 6) : mOk F p := by
  have h3 := mI_many h h1 h2
  have h4 := mI_nw h
  refine ⟨⟨h1, h2⟩, ⟨h3.1, by omega⟩, fun k k1 k2 => ?_, mI_width h, fun j _ _ => mI_score h j⟩
  have h5 := mI_word h h1 h2 k1 k2
  have h6 := mI_w h h5.1 h5.2.1
  exact ⟨⟨h5.1, by omega⟩, h6.1, h6.2.1⟩
theorem mI_mW {F : mF} (h : mI F) {p : Int} (h1 : 0 ≤ p) (h2 : p < 6) : mW F p := fun k k1 k2 => (mI_word h h1 h2 k1 k2).2.2
theorem mI_pOk {F : mF} (h : mI F) {p : Int} (h1 : 0 ≤ p) (h2 : p < 6) : pOk (mq F p) := mOk_p (mI_mOk h h1 h2)
theorem mI_sEq {F F' : mF} (h : mI F) (he : sEq F F') (hB : mB F') : mI F' := by
  have e := fun (k : Nat) (z : k = 1 ∨ k = 2 ∨ k = 3 ∨ k = 4 ∨ k = 5 ∨ k = 6 ∨ k = 7 ∨ k = 8 ∨ k = 9 ∨ k = 10 ∨ k = 11 ∨ k = 13 ∨ k = 17 ∨ k = 18 ∨ k = 19 ∨ k = 20) => he k (by omega) (by omega) (by omega) (by omega) (by omega)
  have hkept : ∀ p, mKept F p → mKept F' p := fun p hk => by
    unfold mKept mRow at hk ⊢
    rw [sEq_mq he p, e 4 (by decide), e 13 (by decide), e 6 (by decide)]
    exact hk
  unfold mI
  rw [e 1 (by decide), e 2 (by decide), e 3 (by decide), e 4 (by decide), e 5 (by decide), e 6 (by decide), e 7 (by decide), e 8 (by decide), e 9 (by decide), e 10 (by decide), e 11 (by decide), e 17 (by decide), e 18 (by decide), e 19 (by decide), e 20 (by decide)]
  exact ⟨h.1, h.2.1, h.2.2.1, h.2.2.2.1, h.2.2.2.2.1, h.2.2.2.2.2.1, h.2.2.2.2.2.2.1, h.2.2.2.2.2.2.2.1, h.2.2.2.2.2.2.2.2.1, hB, fun p h1 h2 => hkept p (mI_kept h h1 h2), h.2.2.2.2.2.2.2.2.2.2.2⟩
/-- only scratch has changed -/
def scr (F F' : mF) : Prop := sEq F F' ∧ mB F'
theorem scr_rf {F : mF} (h : mB F) : scr F F := ⟨sEq_rf F, h⟩
theorem scr_tr {F F' F'' : mF} (h : scr F F') (h' : scr F' F'') : scr F F'' := ⟨sEq_tr h.1 h'.1, h'.2⟩
theorem scr_th {F : mF} (v : Int) (h : mB F) : scr F (upF F 0 0 v) := ⟨sEq_up (sEq_rf F) (Or.inl rfl), fun j => by rw [upF_k F _ _ (by decide)]; exact h j⟩
theorem scr_mI {F F' : mF} (h : scr F F') (hI : mI F) : mI F' := mI_sEq hI h.1 h.2
theorem LinesOf_scr {F F' : mF} (h : sEq F F') {p : Int} {b : Int → Int} {n : Int} : LinesOf F' p b n ↔ LinesOf F p b n := by
  unfold LinesOf mRow
  rw [sEq_mq h p, h 4 (by decide) (by decide) (by decide) (by decide) (by decide), h 13 (by decide) (by decide) (by decide) (by decide) (by decide), h 6 (by decide) (by decide) (by decide) (by decide) (by decide)]
theorem m_linesOf {g : jG} {l : Launch} {x : Nat} {AD : Nat → Nat} {F : mF} (hnt : l.stackTraces = false) (hD : mD x AD) (a : Int) (hI : mI F) (ha : 0 ≤ a ∧ a < 6) : mMi g l x AD yX3_linesOf (ws_ yX3_linesOf cX3_linesOf 2 (some .int)) (jr 4 0 0) [.ref x, .int (zI (a))] F (fun r F' => scr F F' ∧ F' 0 = F 0 ∧ ∃ b, LinesOf F a b r ∧ Mk (mq F a) (mRow F' 12 a) b r) := by
  refine mM_of (L0 := [some (.ref x), some (.int (zI (a)))]) hnt (by decide +kernel) rfl (Nat.le_of_ble_eq_true rfl) rfl rfl ?_
  intro Θ hΘ p e s m args below meth c A Q hC hQ
  refine J_aload_n hC dX3_linesOf_0 rfl ?_
  refine J_iload_n hC dX3_linesOf_1 rfl ?_
  refine Jm_callVv (n := 1) hC hΘ (m_marks hnt hD a (mI_mOk hI ha.1 ha.2) (mI_mW hI ha.1 ha.2) (mI_kept hI ha.1 ha.2) (mI_B hI)) (lw_V q1025 q1027 qs19 q61 q1028) ⟨rfl, by decide +kernel⟩ ⟨(Nat.le_of_ble_eq_true rfl), (Nat.le_of_ble_eq_true rfl)⟩ rfl rfl rfl rfl (Nat.le_of_ble_eq_true rfl) dX3_linesOf_2 ?_
  intro F9 hr9
  obtain ⟨b, n, h1, h2, h3, h4, h5, h6, h7⟩ := hr9
  refine J_aload_n hC dX3_linesOf_5 rfl ?_
  refine Jm_get hC 16 (by decide) q937 rfl rfl dX3_linesOf_6 ?_
  refine J_iload_n hC dX3_linesOf_9 rfl ?_
  refine Jm_iald hC 16 (n := 6) (v := n) (by rw [h3, upI_self]) rfl (by decide) rfl (by omega) (by omega) dX3_linesOf_10 ?_
  refine Jm_iret hC hQ  ⟨_, rfl, ?_⟩ dX3_linesOf_11
  exact ⟨⟨h4, h6⟩, h5, b, h1, h2⟩
theorem m_isLine {g : jG} {l : Launch} {x : Nat} {AD : Nat → Nat} {F : mF} (hnt : l.stackTraces = false) (hD : mD x AD) (a ln : Int) (hI : mI F) (ha : zR a) (hln : zR ln) : mMi g l x AD yX3_isLine (ws_ yX3_isLine cX3_isLine 3 (some .boolean)) (jr 5 0 0) [.ref x, .int (zI (a)), .int (zI (ln))] F (fun r F' => scr F F' ∧ F' 0 = F 0 ∧ ((r = 1 ∧ (0 ≤ a ∧ a < F 3 0) ∧ ∃ b n, LinesOf F a b n ∧ Mk (mq F a) (mRow F' 12 a) b n ∧ 0 ≤ ln ∧ ln < n) ∨ (r = 0 ∧ ((0 ≤ a ∧ a < F 3 0) → ∃ b n, LinesOf F a b n ∧ ¬ (0 ≤ ln ∧ ln < n))))) := by
  refine mM_of (L0 := [some (.ref x), some (.int (zI (a))), some (.int (zI (ln)))]) hnt (by decide +kernel) rfl (Nat.le_of_ble_eq_true rfl) rfl rfl ?_
  intro Θ hΘ p e s m args below meth c A Q hC hQ
  have hnp := mI_np hI
  refine J_aload_n hC dX3_isLine_0 rfl ?_
  refine J_iload_n hC dX3_isLine_1 rfl ?_
  refine Jm_callVi (n := 1) hC hΘ (m_isParagraph hnt hD a ha hnp) (lw_V q1002 q1004 qs17 q61 q1005) ⟨rfl, by decide +kernel⟩ ⟨(Nat.le_of_ble_eq_true rfl), (Nat.le_of_ble_eq_true rfl)⟩ rfl rfl rfl rfl (Nat.le_of_ble_eq_true rfl) dX3_isLine_2 ?_
  intro r F9 hr9
  obtain ⟨hr, e9⟩ := hr9
  rw [e9]
  refine J_if_eq (tgt := 27) hC (by first | with_reducible assumption | exact zR_mk (by omega) (by omega)) dX3_isLine_5 rfl (fun c5 => ?_) (fun c5 => ?_)
  · refine J_iconst hC dX3_isLine_27 ?_
    refine Jm_zret hC hQ (by omega) ⟨_, rfl, ?_⟩ dX3_isLine_28
    exact ⟨scr_rf (mI_B hI), rfl, Or.inr ⟨rfl, fun z => by omega⟩⟩
  · have ha6 : 0 ≤ a ∧ a < 6 := by omega
    refine J_iload_n hC dX3_isLine_8 rfl ?_
    refine J_iconst hC dX3_isLine_9 ?_
    refine J_aload_n hC dX3_isLine_10 rfl ?_
    refine J_iload_n hC dX3_isLine_11 rfl ?_
    refine Jm_callVi (n := 1) hC hΘ (m_linesOf hnt hD a hI ha6) (lw_V q1062 q1064 qs26 q61 q1065) ⟨rfl, by decide +kernel⟩ ⟨(Nat.le_of_ble_eq_true rfl), (Nat.le_of_ble_eq_true rfl)⟩ rfl rfl rfl rfl (Nat.le_of_ble_eq_true rfl) dX3_isLine_12 ?_
    intro r F9 hr9
    obtain ⟨h1, h2, b, h3, h4⟩ := hr9
    have hn := Ln_n (LinesOf_Ln (mI_pOk hI ha6.1 ha6.2) h3)
    have hn1 := (LinesOf_Ln (mI_pOk hI ha6.1 ha6.2) h3).1
    have hN := (mI_mOk hI ha6.1 ha6.2).2.1
    rw [mq_N] at hn
    refine J_iconst hC dX3_isLine_15 ?_
    refine J_isub hC dX3_isLine_16 ?_
    refine Jm_isIn hC (lw_S q1006 q1007 q61 q1008) ⟨(Nat.le_of_ble_eq_true rfl), (Nat.le_of_ble_eq_true rfl)⟩ hln (zR_mk (by omega) (by omega)) (zR_mk (by omega) (by omega)) rfl (Nat.le_of_ble_eq_true rfl) dX3_isLine_17 (fun b17 hb17 => ?_)
    refine J_if_eq (tgt := 27) hC (by first | with_reducible assumption | exact zR_mk (by omega) (by omega)) dX3_isLine_20 rfl (fun c20 => ?_) (fun c20 => ?_)
    · refine J_iconst hC dX3_isLine_27 ?_
      refine Jm_zret hC hQ (by omega) ⟨_, rfl, ?_⟩ dX3_isLine_28
      exact ⟨h1, h2, Or.inr ⟨rfl, fun _ => ⟨b, r, h3, by omega⟩⟩⟩
    · refine J_iconst hC dX3_isLine_23 ?_
      refine J_goto (tgt := 28) hC dX3_isLine_24 rfl ?_
      refine Jm_zret hC hQ (by omega) ⟨_, rfl, ?_⟩ dX3_isLine_28
      exact ⟨h1, h2, Or.inl ⟨rfl, by omega, b, r, h3, h4, by omega⟩⟩
theorem m_lines {g : jG} {l : Launch} {x : Nat} {AD : Nat → Nat} {F : mF} (hnt : l.stackTraces = false) (hD : mD x AD) (a : Int) (hI : mI F) (ha : zR a) : mMi g l x AD yX3_lines (ws_ yX3_lines cX3_lines 2 (some .int)) (jr 5 0 0) [.ref x, .int (zI (a))] F (fun r F' => scr F F' ∧ ((F' 0 0 = 1 ∧ ¬ (0 ≤ a ∧ a < F 3 0)) ∨ (F' 0 0 = 0 ∧ (0 ≤ a ∧ a < F 3 0) ∧ ∃ b, LinesOf F a b r))) := by
  refine mM_of (L0 := [some (.ref x), some (.int (zI (a)))]) hnt (by decide +kernel) rfl (Nat.le_of_ble_eq_true rfl) rfl rfl ?_
  intro Θ hΘ p e s m args below meth c A Q hC hQ
  have hnp := mI_np hI
  have hB := mI_B hI
  refine J_aload_n hC dX3_lines_0 rfl ?_
  refine J_aload_n hC dX3_lines_1 rfl ?_
  refine J_iload_n hC dX3_lines_2 rfl ?_
  refine Jm_callVi (n := 1) hC hΘ (m_isParagraph hnt hD a ha hnp) (lw_V q1002 q1004 qs17 q61 q1005) ⟨rfl, by decide +kernel⟩ ⟨(Nat.le_of_ble_eq_true rfl), (Nat.le_of_ble_eq_true rfl)⟩ rfl rfl rfl rfl (Nat.le_of_ble_eq_true rfl) dX3_lines_3 ?_
  intro r F9 hr9
  obtain ⟨hr, e9⟩ := hr9
  rw [e9]
  refine J_if_eq (tgt := 13) hC (by first | with_reducible assumption | exact zR_mk (by omega) (by omega)) dX3_lines_6 rfl (fun c6 => ?_) (fun c6 => ?_)
  · refine J_iconst hC dX3_lines_13 ?_
    refine Jm_callVi (n := 1) hC hΘ (m_holds hnt hD 1 (zR_mk (by omega) (by omega))) (lw_V q994 q996 qs16 q61 q997) ⟨rfl, by decide +kernel⟩ ⟨(Nat.le_of_ble_eq_true rfl), (Nat.le_of_ble_eq_true rfl)⟩ rfl rfl rfl rfl (Nat.le_of_ble_eq_true rfl) dX3_lines_14 ?_
    intro r2 F9 hr9
    obtain ⟨hr2, e9⟩ := hr9
    rw [e9]
    refine J_if_eq (tgt := 28) hC (by first | with_reducible assumption | exact zR_mk (by omega) (by omega)) dX3_lines_17 rfl (fun c17 => ?_) (fun c17 => ?_)
    · refine J_iconst hC dX3_lines_28 ?_
      refine Jm_iret hC hQ  ⟨_, rfl, ?_⟩ dX3_lines_29
      exact ⟨scr_th 1 hB, Or.inl ⟨rfl, by omega⟩⟩
    · omega
  · refine J_iconst hC dX3_lines_9 ?_
    refine J_goto (tgt := 14) hC dX3_lines_10 rfl ?_
    refine Jm_callVi (n := 1) hC hΘ (m_holds hnt hD 0 (zR_mk (by omega) (by omega))) (lw_V q994 q996 qs16 q61 q997) ⟨rfl, by decide +kernel⟩ ⟨(Nat.le_of_ble_eq_true rfl), (Nat.le_of_ble_eq_true rfl)⟩ rfl rfl rfl rfl (Nat.le_of_ble_eq_true rfl) dX3_lines_14 ?_
    intro r2 F9 hr9
    obtain ⟨hr2, e9⟩ := hr9
    rw [e9]
    have hs := scr_th 0 hB
    have ha6 : 0 ≤ a ∧ a < 6 := by omega
    refine J_if_eq (tgt := 28) hC (by first | with_reducible assumption | exact zR_mk (by omega) (by omega)) dX3_lines_17 rfl (fun c17 => ?_) (fun c17 => ?_)
    · omega
    · refine J_aload_n hC dX3_lines_20 rfl ?_
      refine J_iload_n hC dX3_lines_21 rfl ?_
      refine Jm_callVi (n := 1) hC hΘ (m_linesOf hnt hD a (scr_mI hs hI) ha6) (lw_V q1062 q1064 qs26 q61 q1065) ⟨rfl, by decide +kernel⟩ ⟨(Nat.le_of_ble_eq_true rfl), (Nat.le_of_ble_eq_true rfl)⟩ rfl rfl rfl rfl (Nat.le_of_ble_eq_true rfl) dX3_lines_22 ?_
      intro r3 F9 hr9
      obtain ⟨h1, h2, b, h3, h4⟩ := hr9
      refine J_goto (tgt := 29) hC dX3_lines_25 rfl ?_
      refine Jm_iret hC hQ  ⟨_, rfl, ?_⟩ dX3_lines_29
      exact ⟨scr_tr hs h1, Or.inr ⟨by rw [h2]; rfl, by omega, b, (LinesOf_scr hs.1).mp h3⟩⟩
theorem m_badnessNow {g : jG} {l : Launch} {x : Nat} {AD : Nat → Nat} {F : mF} (hnt : l.stackTraces = false) (hD : mD x AD) (a : Int) (hI : mI F) (ha : 0 ≤ a ∧ a < 6) : mMi g l x AD yX3_badnessNow (ws_ yX3_badnessNow cX3_badnessNow 2 (some .int)) (jr 3 0 0) [.ref x, .int (zI (a))] F (fun r F' => scr F F' ∧ F' 0 = F 0 ∧ ∃ ls nx, best (mq F a) ls nx ∧ r = ls 0) := by
  refine mM_of (L0 := [some (.ref x), some (.int (zI (a)))]) hnt (by decide +kernel) rfl (Nat.le_of_ble_eq_true rfl) rfl rfl ?_
  intro Θ hΘ p e s m args below meth c A Q hC hQ
  refine J_aload_n hC dX3_badnessNow_0 rfl ?_
  refine J_iload_n hC dX3_badnessNow_1 rfl ?_
  refine Jm_callVv (n := 1) hC hΘ (m_breaks hnt hD a (mI_mOk hI ha.1 ha.2)) (lw_V q1033 q1035 qs21 q61 q1036) ⟨rfl, by decide +kernel⟩ ⟨(Nat.le_of_ble_eq_true rfl), (Nat.le_of_ble_eq_true rfl)⟩ rfl rfl rfl rfl (Nat.le_of_ble_eq_true rfl) dX3_badnessNow_2 ?_
  intro F9 hr9
  obtain ⟨h1, h2⟩ := hr9
  refine J_aload_n hC dX3_badnessNow_5 rfl ?_
  refine Jm_get hC 14 (by decide) q935 rfl rfl dX3_badnessNow_6 ?_
  refine J_iconst hC dX3_badnessNow_9 ?_
  refine Jm_iald hC 14 (n := 976) rfl rfl (by decide) rfl (by omega) (by omega) dX3_badnessNow_10 ?_
  refine Jm_iret hC hQ  ⟨_, rfl, ?_⟩ dX3_badnessNow_11
  exact ⟨⟨eq2_sEq h1, fun j => by rw [h1 12 (by decide) (by decide)]; exact mI_B hI j⟩, h1 0 (by decide) (by decide), _, _, h2, rfl⟩
theorem m_badness {g : jG} {l : Launch} {x : Nat} {AD : Nat → Nat} {F : mF} (hnt : l.stackTraces = false) (hD : mD x AD) (a : Int) (hI : mI F) (ha : zR a) : mMi g l x AD yX3_badness (ws_ yX3_badness cX3_badness 2 (some .int)) (jr 4 0 0) [.ref x, .int (zI (a))] F (fun r F' => scr F F' ∧ ((F' 0 0 = 1 ∧ ¬ (0 ≤ a ∧ a < F 3 0)) ∨ (F' 0 0 = 0 ∧ (0 ≤ a ∧ a < F 3 0) ∧ ∃ ls nx, best (mq F a) ls nx ∧ r = ls 0))) := by
  refine mM_of (L0 := [some (.ref x), some (.int (zI (a)))]) hnt (by decide +kernel) rfl (Nat.le_of_ble_eq_true rfl) rfl rfl ?_
  intro Θ hΘ p e s m args below meth c A Q hC hQ
  have hnp := mI_np hI
  have hB := mI_B hI
  refine J_aload_n hC dX3_badness_0 rfl ?_
  refine J_aload_n hC dX3_badness_1 rfl ?_
  refine J_iload_n hC dX3_badness_2 rfl ?_
  refine Jm_callVi (n := 1) hC hΘ (m_isParagraph hnt hD a ha hnp) (lw_V q1002 q1004 qs17 q61 q1005) ⟨rfl, by decide +kernel⟩ ⟨(Nat.le_of_ble_eq_true rfl), (Nat.le_of_ble_eq_true rfl)⟩ rfl rfl rfl rfl (Nat.le_of_ble_eq_true rfl) dX3_badness_3 ?_
  intro r F9 hr9
  obtain ⟨hr, e9⟩ := hr9
  rw [e9]
  refine J_if_eq (tgt := 13) hC (by first | with_reducible assumption | exact zR_mk (by omega) (by omega)) dX3_badness_6 rfl (fun c6 => ?_) (fun c6 => ?_)
  · refine J_iconst hC dX3_badness_13 ?_
    refine Jm_callVi (n := 1) hC hΘ (m_holds hnt hD 1 (zR_mk (by omega) (by omega))) (lw_V q994 q996 qs16 q61 q997) ⟨rfl, by decide +kernel⟩ ⟨(Nat.le_of_ble_eq_true rfl), (Nat.le_of_ble_eq_true rfl)⟩ rfl rfl rfl rfl (Nat.le_of_ble_eq_true rfl) dX3_badness_14 ?_
    intro r2 F9 hr9
    obtain ⟨hr2, e9⟩ := hr9
    rw [e9]
    refine J_if_eq (tgt := 28) hC (by first | with_reducible assumption | exact zR_mk (by omega) (by omega)) dX3_badness_17 rfl (fun c17 => ?_) (fun c17 => ?_)
    · refine J_iconst hC dX3_badness_28 ?_
      refine Jm_iret hC hQ  ⟨_, rfl, ?_⟩ dX3_badness_29
      exact ⟨scr_th 1 hB, Or.inl ⟨rfl, by omega⟩⟩
    · omega
  · refine J_iconst hC dX3_badness_9 ?_
    refine J_goto (tgt := 14) hC dX3_badness_10 rfl ?_
    refine Jm_callVi (n := 1) hC hΘ (m_holds hnt hD 0 (zR_mk (by omega) (by omega))) (lw_V q994 q996 qs16 q61 q997) ⟨rfl, by decide +kernel⟩ ⟨(Nat.le_of_ble_eq_true rfl), (Nat.le_of_ble_eq_true rfl)⟩ rfl rfl rfl rfl (Nat.le_of_ble_eq_true rfl) dX3_badness_14 ?_
    intro r2 F9 hr9
    obtain ⟨hr2, e9⟩ := hr9
    rw [e9]
    have hs := scr_th 0 hB
    have ha6 : 0 ≤ a ∧ a < 6 := by omega
    refine J_if_eq (tgt := 28) hC (by first | with_reducible assumption | exact zR_mk (by omega) (by omega)) dX3_badness_17 rfl (fun c17 => ?_) (fun c17 => ?_)
    · omega
    · refine J_aload_n hC dX3_badness_20 rfl ?_
      refine J_iload_n hC dX3_badness_21 rfl ?_
      refine Jm_callVi (n := 1) hC hΘ (m_badnessNow hnt hD a (scr_mI hs hI) ha6) (lw_V q1086 q1088 qs29 q61 q1089) ⟨rfl, by decide +kernel⟩ ⟨(Nat.le_of_ble_eq_true rfl), (Nat.le_of_ble_eq_true rfl)⟩ rfl rfl rfl rfl (Nat.le_of_ble_eq_true rfl) dX3_badness_22 ?_
      intro r3 F9 hr9
      obtain ⟨h1, h2, ls, nx, h3, h4⟩ := hr9
      refine J_goto (tgt := 29) hC dX3_badness_25 rfl ?_
      refine Jm_iret hC hQ  ⟨_, rfl, ?_⟩ dX3_badness_29
      rw [sEq_mq hs.1] at h3
      exact ⟨scr_tr hs h1, Or.inr ⟨by rw [h2]; rfl, by omega, ls, nx, h3, h4⟩⟩
theorem m_badnessForwards {g : jG} {l : Launch} {x : Nat} {AD : Nat → Nat} {F : mF} (hnt : l.stackTraces = false) (hD : mD x AD) (a : Int) (hI : mI F) (ha : zR a) : mMi g l x AD yX3_badnessForwards (ws_ yX3_badnessForwards cX3_badnessForwards 2 (some .int)) (jr 4 0 0) [.ref x, .int (zI (a))] F (fun r F' => scr F F' ∧ ((F' 0 0 = 1 ∧ ¬ (0 ≤ a ∧ a < F 3 0)) ∨ (F' 0 0 = 0 ∧ (0 ≤ a ∧ a < F 3 0) ∧ ∃ ls nx, best (mq F a) ls nx ∧ r = ls 0))) := by
  refine mM_of (L0 := [some (.ref x), some (.int (zI (a)))]) hnt (by decide +kernel) rfl (Nat.le_of_ble_eq_true rfl) rfl rfl ?_
  intro Θ hΘ p e s m args below meth c A Q hC hQ
  have hnp := mI_np hI
  have hB := mI_B hI
  refine J_aload_n hC dX3_badnessForwards_0 rfl ?_
  refine J_aload_n hC dX3_badnessForwards_1 rfl ?_
  refine J_iload_n hC dX3_badnessForwards_2 rfl ?_
  refine Jm_callVi (n := 1) hC hΘ (m_isParagraph hnt hD a ha hnp) (lw_V q1002 q1004 qs17 q61 q1005) ⟨rfl, by decide +kernel⟩ ⟨(Nat.le_of_ble_eq_true rfl), (Nat.le_of_ble_eq_true rfl)⟩ rfl rfl rfl rfl (Nat.le_of_ble_eq_true rfl) dX3_badnessForwards_3 ?_
  intro r F9 hr9
  obtain ⟨hr, e9⟩ := hr9
  rw [e9]
  refine J_if_eq (tgt := 13) hC (by first | with_reducible assumption | exact zR_mk (by omega) (by omega)) dX3_badnessForwards_6 rfl (fun c6 => ?_) (fun c6 => ?_)
  · refine J_iconst hC dX3_badnessForwards_13 ?_
    refine Jm_callVi (n := 1) hC hΘ (m_holds hnt hD 1 (zR_mk (by omega) (by omega))) (lw_V q994 q996 qs16 q61 q997) ⟨rfl, by decide +kernel⟩ ⟨(Nat.le_of_ble_eq_true rfl), (Nat.le_of_ble_eq_true rfl)⟩ rfl rfl rfl rfl (Nat.le_of_ble_eq_true rfl) dX3_badnessForwards_14 ?_
    intro r2 F9 hr9
    obtain ⟨hr2, e9⟩ := hr9
    rw [e9]
    refine J_if_eq (tgt := 28) hC (by first | with_reducible assumption | exact zR_mk (by omega) (by omega)) dX3_badnessForwards_17 rfl (fun c17 => ?_) (fun c17 => ?_)
    · refine J_iconst hC dX3_badnessForwards_28 ?_
      refine Jm_iret hC hQ  ⟨_, rfl, ?_⟩ dX3_badnessForwards_29
      exact ⟨scr_th 1 hB, Or.inl ⟨rfl, by omega⟩⟩
    · omega
  · refine J_iconst hC dX3_badnessForwards_9 ?_
    refine J_goto (tgt := 14) hC dX3_badnessForwards_10 rfl ?_
    refine Jm_callVi (n := 1) hC hΘ (m_holds hnt hD 0 (zR_mk (by omega) (by omega))) (lw_V q994 q996 qs16 q61 q997) ⟨rfl, by decide +kernel⟩ ⟨(Nat.le_of_ble_eq_true rfl), (Nat.le_of_ble_eq_true rfl)⟩ rfl rfl rfl rfl (Nat.le_of_ble_eq_true rfl) dX3_badnessForwards_14 ?_
    intro r2 F9 hr9
    obtain ⟨hr2, e9⟩ := hr9
    rw [e9]
    have hs := scr_th 0 hB
    have ha6 : 0 ≤ a ∧ a < 6 := by omega
    refine J_if_eq (tgt := 28) hC (by first | with_reducible assumption | exact zR_mk (by omega) (by omega)) dX3_badnessForwards_17 rfl (fun c17 => ?_) (fun c17 => ?_)
    · omega
    · refine J_aload_n hC dX3_badnessForwards_20 rfl ?_
      refine J_iload_n hC dX3_badnessForwards_21 rfl ?_
      refine Jm_callVi (n := 1) hC hΘ (m_badnessNow hnt hD a (scr_mI hs hI) ha6) (lw_V q1086 q1088 qs29 q61 q1089) ⟨rfl, by decide +kernel⟩ ⟨(Nat.le_of_ble_eq_true rfl), (Nat.le_of_ble_eq_true rfl)⟩ rfl rfl rfl rfl (Nat.le_of_ble_eq_true rfl) dX3_badnessForwards_22 ?_
      intro r3 F9 hr9
      obtain ⟨h1, h2, ls, nx, h3, h4⟩ := hr9
      refine J_goto (tgt := 29) hC dX3_badnessForwards_25 rfl ?_
      refine Jm_iret hC hQ  ⟨_, rfl, ?_⟩ dX3_badnessForwards_29
      rw [sEq_mq hs.1] at h3
      exact ⟨scr_tr hs h1, Or.inr ⟨by rw [h2]; rfl, by omega, ls, nx, h3, h4⟩⟩
