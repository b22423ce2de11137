/-! THE MODEL: all marks, pages -/
set_option maxRecDepth 100000
/-- a paragraph's marks and number of lines stand -/
def Mkd (F F' : mF) (p : Int) : Prop := ∃ b, LinesOf F p b (F' 16 p) ∧ Mk (mq F p) (mRow F' 12 p) b (F' 16 p)
theorem m_marksAll {g : jG} {l : Launch} {x : Nat} {AD : Nat → Nat} {F : mF} (hnt : l.stackTraces = false) (hD : mD x AD) (hI : mI F) : mMv g l x AD yX3_marksAll (ws_ yX3_marksAll cX3_marksAll 2 none) (jr 4 0 0) [.ref x] F (fun F' => scr F F' ∧ F' 0 = F 0 ∧ ∀ p, 0 ≤ p → p < F 3 0 → Mkd F F' p) := by
  refine mM_of (L0 := [some (.ref x), none]) hnt (by decide +kernel) rfl (Nat.le_of_ble_eq_true rfl) rfl rfl ?_
  intro Θ hΘ p e s m args below meth c A Q hC hQ
  have hnp := mI_np hI
  have loop : ∀ (n : Nat) (k : Int) (F1 : mF), 0 ≤ k → k ≤ F 3 0 → F 3 0 - k < n → scr F F1 → F1 0 = F 0 → (∀ p, 0 ≤ p → p < k → Mkd F F1 p) → J p l e (jr 4 0 0) s m args below meth c A Q (mP g x AD Θ (F1) A) 0 0 2 [some (.ref x), some (.int (zI (k)))] [] := by
    intro n
    induction n with
    | zero => intro k F1 h1 h2 h3; omega
    | succ n ih =>
      intro k F1 h1 h2 h3 hs h0 hm
      have e3 : F1 3 0 = F 3 0 := by rw [hs.1 3 (by decide) (by decide) (by decide) (by decide) (by decide)]
      refine J_iload_n hC dX3_marksAll_2 rfl ?_
      refine J_aload_n hC dX3_marksAll_3 rfl ?_
      refine Jm_gets hC 3 (v := F 3 0) e3 rfl q924 rfl dX3_marksAll_4 ?_
      refine J_icmp_ge (tgt := 21) hC (by first | with_reducible assumption | exact zR_mk (by omega) (by omega)) (by first | with_reducible assumption | exact zR_mk (by omega) (by omega)) dX3_marksAll_7 rfl (fun c7 => ?_) (fun c7 => ?_)
      · refine Jm_vret hC hQ ⟨rfl, ?_⟩ dX3_marksAll_21
        exact ⟨hs, h0, fun p p1 p2 => hm p p1 (by omega)⟩
      · have hI1 := scr_mI hs hI
        refine J_aload_n hC dX3_marksAll_10 rfl ?_
        refine J_iload_n hC dX3_marksAll_11 rfl ?_
        refine Jm_callVv (n := 1) hC hΘ (m_marks hnt hD k (mI_mOk hI1 (by omega) (by omega)) (mI_mW hI1 (by omega) (by omega)) (mI_kept hI1 (by omega) (by omega)) (mI_B hI1)) (lw_V q1025 q1027 qs19 q61 q1028) ⟨rfl, by decide +kernel⟩ ⟨(Nat.le_of_ble_eq_true rfl), (Nat.le_of_ble_eq_true rfl)⟩ rfl rfl rfl rfl (Nat.le_of_ble_eq_true rfl) dX3_marksAll_12 ?_
        intro F2 hr9
        obtain ⟨b, n2, g1, g2, g3, g4, g5, g6, g7⟩ := hr9
        refine J_iinc hC dX3_marksAll_15 rfl (Nat.le_of_ble_eq_true rfl) ?_
        refine J_goto (tgt := 2) hC dX3_marksAll_18 rfl ?_
        refine ih (k + 1) F2 (by omega) (by omega) (by omega) (scr_tr hs ⟨g4, g6⟩) (by rw [g5]; exact h0) (fun p p1 p2 => ?_)
        by_cases hpk : p = k
        · subst hpk
          refine ⟨b, ?_, ?_⟩
          · rw [g3, upI_self]; exact (LinesOf_scr hs.1).mp g1
          · rw [g3, upI_self]
            rw [sEq_mq hs.1] at g2
            exact g2
        · obtain ⟨b', y1, y2⟩ := hm p p1 (by omega)
          refine ⟨b', ?_, ?_⟩
          · rw [g3, upI_ne _ hpk]; exact y1
          · rw [g3, upI_ne _ hpk]
            refine Mk_congr (fun k' j z1 z2 z3 z4 => ?_) y2
            unfold mRow
            rw [g4 6 (by decide) (by decide) (by decide) (by decide) (by decide)]
            refine g7 _ (fun k2 w1 w2 w3 => ?_)
            rw [mq_N] at z2
            have e5 : F1 5 = F 5 := hs.1 5 (by decide) (by decide) (by decide) (by decide) (by decide)
            have v1 := mI_word hI1 (p := p) p1 (by omega) (k := k') z1 (by rw [e5]; exact z2)
            have v2 := mI_word hI1 (p := k) (by omega) (by omega) w1 w2
            have e : F1 6 (60 * p + k') = F1 6 (60 * k + k2) := by omega
            rw [e] at v1
            omega
  refine J_iconst hC dX3_marksAll_0 ?_
  refine J_istore_n (i := 1) hC dX3_marksAll_1 rfl (Nat.le_of_ble_eq_true rfl) ?_
  exact loop (F 3 0 + 1).toNat 0 F (Int.le_refl _) hnp.1 (by omega) (scr_rf (mI_B hI)) rfl (fun p p1 p2 => by omega)
theorem m_paragraphOf {g : jG} {l : Launch} {x : Nat} {AD : Nat → Nat} {F : mF} (hnt : l.stackTraces = false) (hD : mD x AD) (ln : Int) (hc : cOk (F 16) (F 3 0)) (hln : 0 ≤ ln ∧ ln < sI (F 16) (F 3 0)) : mMi g l x AD yX3_paragraphOf (ws_ yX3_paragraphOf cX3_paragraphOf 5 (some .int)) (jr 1 0 0) [.ref x, .int (zI (ln))] F (fun r F' => inPar (F 16) (F 3 0) ln r ∧ F' = F) := by
  refine mM_of (L0 := [some (.ref x), some (.int (zI (ln))), none, none, none]) hnt (by decide +kernel) rfl (Nat.le_of_ble_eq_true rfl) rfl rfl ?_
  intro Θ hΘ p e s m args below meth c A Q hC hQ
  have hnp : 0 ≤ F 3 0 ∧ F 3 0 ≤ 6 := ⟨hc.1, hc.2.1⟩
  have hall := cOk_bd hc hnp.1 (Int.le_refl _)
  have loop : ∀ (n : Nat) (k f v4 : Int), -1 ≤ k → k < F 3 0 → k + 1 < n → (f = -1 ∧ ln < sI (F 16) (k + 1) ∨ inPar (F 16) (F 3 0) ln f) → J p l e (jr 1 0 0) s m args below meth c A Q (mP g x AD Θ (F) A) 0 0 9 [some (.ref x), some (.int (zI (ln))), some (.int (zI (f))), some (.int (zI (k))), none] [] := by
    intro n
    induction n with
    | zero => intro k f v4 h1 h2 h3; omega
    | succ n ih =>
      intro k f v4 h1 h2 h3 hf
      refine J_iload_n hC dX3_paragraphOf_9 rfl ?_
      refine J_if_lt (tgt := 51) hC (by first | with_reducible assumption | exact zR_mk (by omega) (by omega)) dX3_paragraphOf_10 rfl (fun c10 => ?_) (fun c10 => ?_)
      · refine J_iload_n hC dX3_paragraphOf_51 rfl ?_
        refine Jm_iret hC hQ  ⟨_, rfl, ?_⟩ dX3_paragraphOf_52
        refine ⟨?_, rfl⟩
        rcases hf with ⟨-, z⟩ | z
        · rw [show k + 1 = 0 by omega, sI_0] at z
          omega
        · exact z
      · have hb1 := cOk_bd hc (a := k) (by omega) (by omega)
        have hb2 := cOk_bd hc (a := k + 1) (by omega) (by omega)
        have hsu := sI_succ (F 16) (i := k) (by omega)
        have hck := hc.2.2 k (by omega) (by omega)
        refine J_aload_n hC dX3_paragraphOf_13 rfl ?_
        refine J_iload_n hC dX3_paragraphOf_14 rfl ?_
        refine Jm_callVi (n := 1) hC hΘ (m_ahead hnt hD k (by omega)) (lw_V q1102 q1104 qs31 q61 q1105) ⟨rfl, by decide +kernel⟩ ⟨(Nat.le_of_ble_eq_true rfl), (Nat.le_of_ble_eq_true rfl)⟩ rfl rfl rfl rfl (Nat.le_of_ble_eq_true rfl) dX3_paragraphOf_15 ?_
        intro r F9 hr9
        obtain ⟨er9, e9⟩ := hr9
        rw [e9, er9]
        refine J_istore hC dX3_paragraphOf_18 (Nat.le_of_ble_eq_true rfl) ?_
        refine J_iload_n hC dX3_paragraphOf_20 rfl ?_
        refine J_iload hC dX3_paragraphOf_21 rfl ?_
        refine J_icmp_lt (tgt := 43) hC (by first | with_reducible assumption | exact zR_mk (by omega) (by omega)) (by first | with_reducible assumption | exact zR_mk (by omega) (by omega)) dX3_paragraphOf_23 rfl (fun c23 => ?_) (fun c23 => ?_)
        · refine J_iload_n hC dX3_paragraphOf_43 rfl ?_
          refine J_istore_n (i := 2) hC dX3_paragraphOf_44 rfl (Nat.le_of_ble_eq_true rfl) ?_
          refine J_iinc hC dX3_paragraphOf_45 rfl (Nat.le_of_ble_eq_true rfl) ?_
          refine J_goto (tgt := 9) hC dX3_paragraphOf_48 rfl ?_
          refine J_forget (L' := [some (.ref x), some (.int (zI (ln))), some (.int (zI (f))), some (.int (zI (k + -1))), none]) (by simp [jle]) ?_
          refine ih (k + -1) f 0 (by omega) (by omega) (by omega) ?_
          rcases hf with ⟨z1, z2⟩ | z
          · exact Or.inl ⟨z1, by rw [show k + -1 + 1 = k by omega]; exact c23⟩
          · exact Or.inr z
        · refine J_iload_n hC dX3_paragraphOf_26 rfl ?_
          refine J_iload hC dX3_paragraphOf_27 rfl ?_
          refine J_aload_n hC dX3_paragraphOf_29 rfl ?_
          refine Jm_get hC 16 (by decide) q937 rfl rfl dX3_paragraphOf_30 ?_
          refine J_iload_n hC dX3_paragraphOf_33 rfl ?_
          refine Jm_iald hC 16 (n := 6) rfl rfl (by decide) rfl (by omega) (by omega) dX3_paragraphOf_34 ?_
          refine J_iadd hC dX3_paragraphOf_35 ?_
          refine J_icmp_ge (tgt := 43) hC (by first | with_reducible assumption | exact zR_mk (by omega) (by omega)) (by first | with_reducible assumption | exact zR_mk (by omega) (by omega)) dX3_paragraphOf_36 rfl (fun c36 => ?_) (fun c36 => ?_)
          · refine J_iload_n hC dX3_paragraphOf_43 rfl ?_
            refine J_istore_n (i := 2) hC dX3_paragraphOf_44 rfl (Nat.le_of_ble_eq_true rfl) ?_
            refine J_iinc hC dX3_paragraphOf_45 rfl (Nat.le_of_ble_eq_true rfl) ?_
            refine J_goto (tgt := 9) hC dX3_paragraphOf_48 rfl ?_
            refine J_forget (L' := [some (.ref x), some (.int (zI (ln))), some (.int (zI (f))), some (.int (zI (k + -1))), none]) (by simp [jle]) ?_
            refine ih (k + -1) f 0 (by omega) (by omega) (by omega) ?_
            rcases hf with ⟨z1, z2⟩ | z
            · omega
            · exact Or.inr z
          · refine J_iload_n hC dX3_paragraphOf_39 rfl ?_
            refine J_goto (tgt := 44) hC dX3_paragraphOf_40 rfl ?_
            refine J_istore_n (i := 2) hC dX3_paragraphOf_44 rfl (Nat.le_of_ble_eq_true rfl) ?_
            refine J_iinc hC dX3_paragraphOf_45 rfl (Nat.le_of_ble_eq_true rfl) ?_
            refine J_goto (tgt := 9) hC dX3_paragraphOf_48 rfl ?_
            refine J_forget (L' := [some (.ref x), some (.int (zI (ln))), some (.int (zI (k))), some (.int (zI (k + -1))), none]) (by simp [jle]) ?_
            exact ih (k + -1) k 0 (by omega) (by omega) (by omega) (Or.inr ⟨by omega, h2, by omega, by omega⟩)
  refine J_iconst hC dX3_paragraphOf_0 ?_
  refine J_istore_n (i := 2) hC dX3_paragraphOf_1 rfl (Nat.le_of_ble_eq_true rfl) ?_
  refine J_aload_n hC dX3_paragraphOf_2 rfl ?_
  refine Jm_get hC 3 (by decide) q924 rfl rfl dX3_paragraphOf_3 ?_
  refine J_iconst hC dX3_paragraphOf_6 ?_
  refine J_isub hC dX3_paragraphOf_7 ?_
  refine J_istore_n (i := 3) hC dX3_paragraphOf_8 rfl (Nat.le_of_ble_eq_true rfl) ?_
  exact loop (F 3 0 + 1).toNat (F 3 0 - 1) (-1) 0 (by omega) (by omega) (by omega) (Or.inl ⟨rfl, by rw [show F 3 0 - 1 + 1 = F 3 0 by omega]; exact hln.2⟩)
theorem m_isFirstLine {g : jG} {l : Launch} {x : Nat} {AD : Nat → Nat} {F : mF} (hnt : l.stackTraces = false) (hD : mD x AD) (ln : Int) (hc : cOk (F 16) (F 3 0)) (hln : 0 ≤ ln ∧ ln < sI (F 16) (F 3 0)) : mMi g l x AD yX3_isFirstLine (ws_ yX3_isFirstLine cX3_isFirstLine 2 (some .boolean)) (jr 2 0 0) [.ref x, .int (zI (ln))] F (fun r F' => F' = F ∧ ∃ p, inPar (F 16) (F 3 0) ln p ∧ (r = 1 ∧ ln = sI (F 16) p ∨ r = 0 ∧ ¬ ln = sI (F 16) p)) := by
  refine mM_of (L0 := [some (.ref x), some (.int (zI (ln)))]) hnt (by decide +kernel) rfl (Nat.le_of_ble_eq_true rfl) rfl rfl ?_
  intro Θ hΘ p e s m args below meth c A Q hC hQ
  have hall := cOk_bd hc hc.1 (Int.le_refl _)
  refine J_iload_n hC dX3_isFirstLine_0 rfl ?_
  refine J_aload_n hC dX3_isFirstLine_1 rfl ?_
  refine J_aload_n hC dX3_isFirstLine_2 rfl ?_
  refine J_iload_n hC dX3_isFirstLine_3 rfl ?_
  refine Jm_callVi (n := 1) hC hΘ (m_paragraphOf hnt hD ln hc hln) (lw_V q1114 q1116 qs34 q61 q1117) ⟨rfl, by decide +kernel⟩ ⟨(Nat.le_of_ble_eq_true rfl), (Nat.le_of_ble_eq_true rfl)⟩ rfl rfl rfl rfl (Nat.le_of_ble_eq_true rfl) dX3_isFirstLine_4 ?_
  intro pp F9 hr9
  obtain ⟨hpp, e9⟩ := hr9
  rw [e9]
  have hpb := cOk_bd hc (a := pp) hpp.1 (by have := hpp.2.1; omega)
  have hnp := hc.2.1
  have h6 := hpp.2.1
  refine Jm_callVi (n := 1) hC hΘ (m_ahead hnt hD pp ⟨hpp.1, by omega⟩) (lw_V q1102 q1104 qs31 q61 q1105) ⟨rfl, by decide +kernel⟩ ⟨(Nat.le_of_ble_eq_true rfl), (Nat.le_of_ble_eq_true rfl)⟩ rfl rfl rfl rfl (Nat.le_of_ble_eq_true rfl) dX3_isFirstLine_7 ?_
  intro r F9 hr9
  obtain ⟨er9, e9⟩ := hr9
  rw [e9, er9]
  refine J_icmp_ne (tgt := 17) hC (by first | with_reducible assumption | exact zR_mk (by omega) (by omega)) (by first | with_reducible assumption | exact zR_mk (by omega) (by omega)) dX3_isFirstLine_10 rfl (fun c10 => ?_) (fun c10 => ?_)
  · refine J_iconst hC dX3_isFirstLine_17 ?_
    refine Jm_zret hC hQ (by omega) ⟨_, rfl, ?_⟩ dX3_isFirstLine_18
    exact ⟨rfl, pp, hpp, Or.inr ⟨rfl, c10⟩⟩
  · refine J_iconst hC dX3_isFirstLine_13 ?_
    refine J_goto (tgt := 18) hC dX3_isFirstLine_14 rfl ?_
    refine Jm_zret hC hQ (by omega) ⟨_, rfl, ?_⟩ dX3_isFirstLine_18
    exact ⟨rfl, pp, hpp, Or.inl ⟨rfl, c10⟩⟩
theorem m_isLastLine {g : jG} {l : Launch} {x : Nat} {AD : Nat → Nat} {F : mF} (hnt : l.stackTraces = false) (hD : mD x AD) (ln : Int) (hc : cOk (F 16) (F 3 0)) (hln : 0 ≤ ln ∧ ln < sI (F 16) (F 3 0)) : mMi g l x AD yX3_isLastLine (ws_ yX3_isLastLine cX3_isLastLine 2 (some .boolean)) (jr 2 0 0) [.ref x, .int (zI (ln))] F (fun r F' => F' = F ∧ ∃ p, inPar (F 16) (F 3 0) ln p ∧ (r = 1 ∧ ln + 1 = sI (F 16) (p + 1) ∨ r = 0 ∧ ¬ ln + 1 = sI (F 16) (p + 1))) := by
  refine mM_of (L0 := [some (.ref x), some (.int (zI (ln)))]) hnt (by decide +kernel) rfl (Nat.le_of_ble_eq_true rfl) rfl rfl ?_
  intro Θ hΘ p e s m args below meth c A Q hC hQ
  have hall := cOk_bd hc hc.1 (Int.le_refl _)
  refine J_iload_n hC dX3_isLastLine_0 rfl ?_
  refine J_iconst hC dX3_isLastLine_1 ?_
  refine J_iadd hC dX3_isLastLine_2 ?_
  refine J_aload_n hC dX3_isLastLine_3 rfl ?_
  refine J_aload_n hC dX3_isLastLine_4 rfl ?_
  refine J_iload_n hC dX3_isLastLine_5 rfl ?_
  refine Jm_callVi (n := 1) hC hΘ (m_paragraphOf hnt hD ln hc hln) (lw_V q1114 q1116 qs34 q61 q1117) ⟨rfl, by decide +kernel⟩ ⟨(Nat.le_of_ble_eq_true rfl), (Nat.le_of_ble_eq_true rfl)⟩ rfl rfl rfl rfl (Nat.le_of_ble_eq_true rfl) dX3_isLastLine_6 ?_
  intro pp F9 hr9
  obtain ⟨hpp, e9⟩ := hr9
  rw [e9]
  have hnp := hc.2.1
  have h6 := hpp.2.1
  have h7 := hpp.1
  have hpb := cOk_bd hc (a := pp + 1) (by omega) (by omega)
  refine J_iconst hC dX3_isLastLine_9 ?_
  refine J_iadd hC dX3_isLastLine_10 ?_
  refine Jm_callVi (n := 1) hC hΘ (m_ahead hnt hD (pp + 1) ⟨by omega, by omega⟩) (lw_V q1102 q1104 qs31 q61 q1105) ⟨rfl, by decide +kernel⟩ ⟨(Nat.le_of_ble_eq_true rfl), (Nat.le_of_ble_eq_true rfl)⟩ rfl rfl rfl rfl (Nat.le_of_ble_eq_true rfl) dX3_isLastLine_11 ?_
  intro r F9 hr9
  obtain ⟨er9, e9⟩ := hr9
  rw [e9, er9]
  refine J_icmp_ne (tgt := 21) hC (by first | with_reducible assumption | exact zR_mk (by omega) (by omega)) (by first | with_reducible assumption | exact zR_mk (by omega) (by omega)) dX3_isLastLine_14 rfl (fun c14 => ?_) (fun c14 => ?_)
  · refine J_iconst hC dX3_isLastLine_21 ?_
    refine Jm_zret hC hQ (by omega) ⟨_, rfl, ?_⟩ dX3_isLastLine_22
    exact ⟨rfl, pp, hpp, Or.inr ⟨rfl, c14⟩⟩
  · refine J_iconst hC dX3_isLastLine_17 ?_
    refine J_goto (tgt := 22) hC dX3_isLastLine_18 rfl ?_
    refine Jm_zret hC hQ (by omega) ⟨_, rfl, ?_⟩ dX3_isLastLine_22
    exact ⟨rfl, pp, hpp, Or.inl ⟨rfl, c14⟩⟩
set_option maxHeartbeats 4000000 in
theorem m_puts {g : jG} {l : Launch} {x : Nat} {AD : Nat → Nat} {F : mF} (hnt : l.stackTraces = false) (hD : mD x AD) (fr all : Int) (hc : cOk (F 16) (F 3 0)) (hh : 3 ≤ F 2 0 ∧ F 2 0 ≤ 20) (hal : all = sI (F 16) (F 3 0)) (hf : 0 ≤ fr ∧ fr < all) : mMi g l x AD yX3_puts (ws_ yX3_puts cX3_puts 4 (some .int)) (jr 3 0 0) [.ref x, .int (zI (fr)), .int (zI (all))] F (fun r F' => PgE (F 16) (F 3 0) (F 2 0) all fr (fr + r) ∧ F' = F) := by
  refine mM_of (L0 := [some (.ref x), some (.int (zI (fr))), some (.int (zI (all))), none]) hnt (by decide +kernel) rfl (Nat.le_of_ble_eq_true rfl) rfl rfl ?_
  intro Θ hΘ p e s m args below meth c A Q hC hQ
  have hall := cOk_bd hc hc.1 (Int.le_refl _)
  rw [← hal] at hall
  refine J_iload_n hC dX3_puts_0 rfl ?_
  refine J_iload_n hC dX3_puts_1 rfl ?_
  refine J_isub hC dX3_puts_2 ?_
  refine J_aload_n hC dX3_puts_3 rfl ?_
  refine Jm_get hC 2 (by decide) q923 rfl rfl dX3_puts_4 ?_
  refine J_icmp_gt (tgt := 14) hC (by first | with_reducible assumption | exact zR_mk (by omega) (by omega)) (by first | with_reducible assumption | exact zR_mk (by omega) (by omega)) dX3_puts_7 rfl (fun c7 => ?_) (fun c7 => ?_)
  · obtain ⟨en, hen⟩ : ∃ z, z = fr + F 2 0 := ⟨_, rfl⟩
    have hl1 : 0 ≤ en - 1 ∧ en - 1 < sI (F 16) (F 3 0) := by omega
    have hl2 : 0 ≤ en ∧ en < sI (F 16) (F 3 0) := by omega
    have hl3 : 0 ≤ en - 2 ∧ en - 2 < sI (F 16) (F 3 0) := by omega
    obtain ⟨p1, hp1⟩ := inPar_ex hc hl1.1 hl1.2
    obtain ⟨p2, hp2⟩ := inPar_ex hc hl2.1 hl2.2
    obtain ⟨p3, hp3⟩ := inPar_ex hc hl3.1 hl3.2
    have res : ∀ r : Int, fr + r = (if en - 1 = sI (F 16) p1 ∧ ¬ en = sI (F 16) (p1 + 1) then en - 1 else if en + 1 = sI (F 16) (p2 + 1) ∧ ¬ en = sI (F 16) p2 then (if en - 2 = sI (F 16) p3 ∧ ¬ en - 1 = sI (F 16) (p3 + 1) then en - 2 else en - 1) else en) → PgE (F 16) (F 3 0) (F 2 0) all fr (fr + r) := by
      intro r hr
      rw [hen] at hp1 hp2 hp3 hr
      exact Or.inr ⟨by omega, p1, p2, p3, hp1, hp2, hp3, hr⟩
    have first : ∀ (ln p9 r : Int), (∃ p, inPar (F 16) (F 3 0) ln p ∧ (r = 1 ∧ ln = sI (F 16) p ∨ r = 0 ∧ ¬ ln = sI (F 16) p)) → inPar (F 16) (F 3 0) ln p9 → (r = 1 ∧ ln = sI (F 16) p9 ∨ r = 0 ∧ ¬ ln = sI (F 16) p9) := fun ln p9 r ⟨p, z1, z2⟩ z3 => by
      rw [inPar_uniq hc z3 z1]; exact z2
    have last : ∀ (ln p9 r : Int), (∃ p, inPar (F 16) (F 3 0) ln p ∧ (r = 1 ∧ ln + 1 = sI (F 16) (p + 1) ∨ r = 0 ∧ ¬ ln + 1 = sI (F 16) (p + 1))) → inPar (F 16) (F 3 0) ln p9 → (r = 1 ∧ ln + 1 = sI (F 16) (p9 + 1) ∨ r = 0 ∧ ¬ ln + 1 = sI (F 16) (p9 + 1)) := fun ln p9 r ⟨p, z1, z2⟩ z3 => by
      rw [inPar_uniq hc z3 z1]; exact z2
    have h48 : ¬ (en - 1 = sI (F 16) p1 ∧ ¬ en = sI (F 16) (p1 + 1)) → J p l e (jr 3 0 0) s m args below meth c A Q (mP g x AD Θ (F) A) 0 0 48 [some (.ref x), some (.int (zI (fr))), some (.int (zI (all))), some (.int (zI (en)))] [] := by
      intro hno
      have h105 : ¬ (en + 1 = sI (F 16) (p2 + 1) ∧ ¬ en = sI (F 16) p2) → J p l e (jr 3 0 0) s m args below meth c A Q (mP g x AD Θ (F) A) 0 0 105 [some (.ref x), some (.int (zI (fr))), some (.int (zI (all))), some (.int (zI (en)))] [] := by
        intro hno2
        refine J_aload_n hC dX3_puts_105 rfl ?_
        refine Jm_get hC 2 (by decide) q923 rfl rfl dX3_puts_106 ?_
        refine Jm_iret hC hQ  ⟨_, rfl, ?_⟩ dX3_puts_109
        exact ⟨res _ (by rw [if_neg hno, if_neg hno2]; omega), rfl⟩
      refine J_aload_n hC dX3_puts_48 rfl ?_
      refine J_iload_n hC dX3_puts_49 rfl ?_
      refine Jm_callVi (n := 1) hC hΘ (m_isLastLine hnt hD en hc hl2) (lw_V q1118 q1120 qs35 q61 q1121) ⟨rfl, by decide +kernel⟩ ⟨(Nat.le_of_ble_eq_true rfl), (Nat.le_of_ble_eq_true rfl)⟩ rfl rfl rfl rfl (Nat.le_of_ble_eq_true rfl) dX3_puts_50 ?_
      intro r1 F9 hr9
      obtain ⟨e9, hr1⟩ := hr9
      rw [e9]
      have hr1 := last _ _ _ hr1 hp2
      refine J_if_eq (tgt := 105) hC (by first | with_reducible assumption | exact zR_mk (by omega) (by omega)) dX3_puts_53 rfl (fun c53 => ?_) (fun c53 => ?_)
      · exact h105 (by omega)
      · refine J_aload_n hC dX3_puts_56 rfl ?_
        refine J_iload_n hC dX3_puts_57 rfl ?_
        refine Jm_callVi (n := 1) hC hΘ (m_isFirstLine hnt hD en hc hl2) (lw_V q1110 q1112 qs33 q61 q1113) ⟨rfl, by decide +kernel⟩ ⟨(Nat.le_of_ble_eq_true rfl), (Nat.le_of_ble_eq_true rfl)⟩ rfl rfl rfl rfl (Nat.le_of_ble_eq_true rfl) dX3_puts_58 ?_
        intro r2 F9 hr9
        obtain ⟨e9, hr2⟩ := hr9
        rw [e9]
        have hr2 := first _ _ _ hr2 hp2
        refine J_if_ne (tgt := 105) hC (by first | with_reducible assumption | exact zR_mk (by omega) (by omega)) dX3_puts_61 rfl (fun c61 => ?_) (fun c61 => ?_)
        · exact h105 (by omega)
        · have hyes : en + 1 = sI (F 16) (p2 + 1) ∧ ¬ en = sI (F 16) p2 := by omega
          have hx1 := hp2.2.2.1
          have h98 : ¬ (en - 2 = sI (F 16) p3 ∧ ¬ en - 1 = sI (F 16) (p3 + 1)) → J p l e (jr 3 0 0) s m args below meth c A Q (mP g x AD Θ (F) A) 0 0 98 [some (.ref x), some (.int (zI (fr))), some (.int (zI (all))), some (.int (zI (en)))] [] := by
            intro hno3
            refine J_aload_n hC dX3_puts_98 rfl ?_
            refine Jm_get hC 2 (by decide) q923 rfl rfl dX3_puts_99 ?_
            refine J_iconst hC dX3_puts_102 ?_
            refine J_isub hC dX3_puts_103 ?_
            refine Jm_iret hC hQ  ⟨_, rfl, ?_⟩ dX3_puts_104
            exact ⟨res _ (by rw [if_neg hno, if_pos hyes, if_neg hno3]; omega), rfl⟩
          refine J_aload_n hC dX3_puts_64 rfl ?_
          refine J_iload_n hC dX3_puts_65 rfl ?_
          refine J_iconst hC dX3_puts_66 ?_
          refine J_isub hC dX3_puts_67 ?_
          refine Jm_callVi (n := 1) hC hΘ (m_isFirstLine hnt hD (en - 2) hc hl3) (lw_V q1110 q1112 qs33 q61 q1113) ⟨rfl, by decide +kernel⟩ ⟨(Nat.le_of_ble_eq_true rfl), (Nat.le_of_ble_eq_true rfl)⟩ rfl rfl rfl rfl (Nat.le_of_ble_eq_true rfl) dX3_puts_68 ?_
          intro r3 F9 hr9
          obtain ⟨e9, hr3⟩ := hr9
          rw [e9]
          have hr3 := first _ _ _ hr3 hp3
          refine J_if_eq (tgt := 98) hC (by first | with_reducible assumption | exact zR_mk (by omega) (by omega)) dX3_puts_71 rfl (fun c71 => ?_) (fun c71 => ?_)
          · exact h98 (by omega)
          · refine J_aload_n hC dX3_puts_74 rfl ?_
            refine J_iload_n hC dX3_puts_75 rfl ?_
            refine J_iconst hC dX3_puts_76 ?_
            refine J_isub hC dX3_puts_77 ?_
            refine Jm_callVi (n := 1) hC hΘ (m_paragraphOf hnt hD (en - 2) hc hl3) (lw_V q1114 q1116 qs34 q61 q1117) ⟨rfl, by decide +kernel⟩ ⟨(Nat.le_of_ble_eq_true rfl), (Nat.le_of_ble_eq_true rfl)⟩ rfl rfl rfl rfl (Nat.le_of_ble_eq_true rfl) dX3_puts_78 ?_
            intro q3 F9 hr9
            obtain ⟨hq3, e9⟩ := hr9
            rw [e9]
            refine J_aload_n hC dX3_puts_81 rfl ?_
            refine J_iload_n hC dX3_puts_82 rfl ?_
            refine Jm_callVi (n := 1) hC hΘ (m_paragraphOf hnt hD en hc hl2) (lw_V q1114 q1116 qs34 q61 q1117) ⟨rfl, by decide +kernel⟩ ⟨(Nat.le_of_ble_eq_true rfl), (Nat.le_of_ble_eq_true rfl)⟩ rfl rfl rfl rfl (Nat.le_of_ble_eq_true rfl) dX3_puts_83 ?_
            intro q2 F9 hr9
            obtain ⟨hq2, e9⟩ := hr9
            rw [e9]
            have e3 := inPar_uniq hc hq3 hp3
            have e2 := inPar_uniq hc hq2 hp2
            subst e3
            subst e2
            have hn6 := hc.2.1
            have w1 := hq3.1
            have w2 := hq3.2.1
            have w3 := hq2.1
            have w4 := hq2.2.1
            have w5 := hq3.2.2.1
            have w6 := hq3.2.2.2
            have same : q3 = q2 ↔ ¬ en - 1 = sI (F 16) (q3 + 1) := by
              constructor
              · intro e
                subst e
                omega
              · intro hn1
                rcases Int.lt_trichotomy q3 q2 with z | z | z
                · have := cOk_mono hc (a := q3 + 1) (b := q2) (by omega) (by omega) (by omega)
                  omega
                · exact z
                · have := cOk_mono hc (a := q2 + 1) (b := q3) (by omega) (by omega) (by omega)
                  omega
            refine J_icmp_ne (tgt := 98) hC (by first | with_reducible assumption | exact zR_mk (by omega) (by omega)) (by first | with_reducible assumption | exact zR_mk (by omega) (by omega)) dX3_puts_86 rfl (fun c86 => ?_) (fun c86 => ?_)
            · exact h98 (fun z => c86 (same.mpr z.2))
            · refine J_aload_n hC dX3_puts_89 rfl ?_
              refine Jm_get hC 2 (by decide) q923 rfl rfl dX3_puts_90 ?_
              refine J_iconst hC dX3_puts_93 ?_
              refine J_isub hC dX3_puts_94 ?_
              refine J_goto (tgt := 104) hC dX3_puts_95 rfl ?_
              refine Jm_iret hC hQ  ⟨_, rfl, ?_⟩ dX3_puts_104
              exact ⟨res _ (by rw [if_neg hno, if_pos hyes, if_pos ⟨by omega, same.mp c86⟩]; omega), rfl⟩
    refine J_iload_n hC dX3_puts_14 rfl ?_
    refine J_aload_n hC dX3_puts_15 rfl ?_
    refine Jm_get hC 2 (by decide) q923 rfl rfl dX3_puts_16 ?_
    refine J_iadd hC dX3_puts_19 ?_
    refine J_istore_n (i := 3) hC dX3_puts_20 rfl (Nat.le_of_ble_eq_true rfl) ?_
    rw [← hen]
    refine J_aload_n hC dX3_puts_21 rfl ?_
    refine J_iload_n hC dX3_puts_22 rfl ?_
    refine J_iconst hC dX3_puts_23 ?_
    refine J_isub hC dX3_puts_24 ?_
    refine Jm_callVi (n := 1) hC hΘ (m_isFirstLine hnt hD (en - 1) hc hl1) (lw_V q1110 q1112 qs33 q61 q1113) ⟨rfl, by decide +kernel⟩ ⟨(Nat.le_of_ble_eq_true rfl), (Nat.le_of_ble_eq_true rfl)⟩ rfl rfl rfl rfl (Nat.le_of_ble_eq_true rfl) dX3_puts_25 ?_
    intro r1 F9 hr9
    obtain ⟨e9, hr1⟩ := hr9
    rw [e9]
    have hr1 := first _ _ _ hr1 hp1
    refine J_if_eq (tgt := 48) hC (by first | with_reducible assumption | exact zR_mk (by omega) (by omega)) dX3_puts_28 rfl (fun c28 => ?_) (fun c28 => ?_)
    · exact h48 (by omega)
    · refine J_aload_n hC dX3_puts_31 rfl ?_
      refine J_iload_n hC dX3_puts_32 rfl ?_
      refine J_iconst hC dX3_puts_33 ?_
      refine J_isub hC dX3_puts_34 ?_
      refine Jm_callVi (n := 1) hC hΘ (m_isLastLine hnt hD (en - 1) hc hl1) (lw_V q1118 q1120 qs35 q61 q1121) ⟨rfl, by decide +kernel⟩ ⟨(Nat.le_of_ble_eq_true rfl), (Nat.le_of_ble_eq_true rfl)⟩ rfl rfl rfl rfl (Nat.le_of_ble_eq_true rfl) dX3_puts_35 ?_
      intro r2 F9 hr9
      obtain ⟨e9, hr2⟩ := hr9
      rw [e9]
      have hr2 := last _ _ _ hr2 hp1
      rw [show en - 1 + 1 = en by omega] at hr2
      refine J_if_ne (tgt := 48) hC (by first | with_reducible assumption | exact zR_mk (by omega) (by omega)) dX3_puts_38 rfl (fun c38 => ?_) (fun c38 => ?_)
      · exact h48 (by omega)
      · refine J_aload_n hC dX3_puts_41 rfl ?_
        refine Jm_get hC 2 (by decide) q923 rfl rfl dX3_puts_42 ?_
        refine J_iconst hC dX3_puts_45 ?_
        refine J_isub hC dX3_puts_46 ?_
        refine Jm_iret hC hQ  ⟨_, rfl, ?_⟩ dX3_puts_47
        exact ⟨res _ (by rw [if_pos (by omega)]; omega), rfl⟩
  · refine J_iload_n hC dX3_puts_10 rfl ?_
    refine J_iload_n hC dX3_puts_11 rfl ?_
    refine J_isub hC dX3_puts_12 ?_
    refine Jm_iret hC hQ  ⟨_, rfl, ?_⟩ dX3_puts_13
    exact ⟨Or.inl ⟨by omega, by omega⟩, rfl⟩
