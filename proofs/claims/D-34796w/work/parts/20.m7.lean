/-! THE MODEL: lineEnd, length -/
set_option maxRecDepth 100000
theorem endc_spec {q : PQ} (hq : pOk q) {b : Int → Int} {n i : Int} (hL : Ln q b n) (h0 : 0 ≤ i) (h1 : i < n) : ∃ k pl, endc q (b (i + 1)) = 16 * k + pl ∧ 0 ≤ k ∧ k < pN q ∧ 1 ≤ pl ∧ pl ≤ pL q k ∧ (pl = pL q k ∧ b (i + 1) = 16 * (k + 1) ∨ pl < pL q k ∧ b (i + 1) = 16 * k + pl) := by
  have hb := Ln_bd hL (i := i + 1) (by omega) (by omega)
  have hpos := hb.2.2.1 (by omega)
  have hv := (hL.2.2.2 i h0 h1).2
  unfold endc
  by_cases hz : 0 < b (i + 1) % 16
  · rw [if_pos hz]
    rcases hv with hv | hv
    · omega
    · exact ⟨b (i + 1) / 16, b (i + 1) % 16, by omega, by omega, by omega, by omega, by omega, Or.inr ⟨hv, by omega⟩⟩
  · rw [if_neg hz]
    have hk := hq.2.2.1 (b (i + 1) / 16 - 1) (by omega) (by omega)
    exact ⟨b (i + 1) / 16 - 1, pL q (b (i + 1) / 16 - 1), rfl, by omega, by omega, hk.1, Int.le_refl _, Or.inl ⟨rfl, by omega⟩⟩
/-- what lineEnd answers for a line that ends at t -/
def lev (F : mF) (a t : Int) : Int := 100 * F 6 (60 * a + (if 0 < t % 16 then t / 16 else t / 16 - 1)) + t % 16
theorem m_lineEnd {g : jG} {l : Launch} {x : Nat} {AD : Nat → Nat} {F : mF} (hnt : l.stackTraces = false) (hD : mD x AD) (a ln : Int) (hI : mI F) (ha : zR a) (hln : zR ln) : mMi g l x AD yX3_lineEnd (ws_ yX3_lineEnd cX3_lineEnd 6 (some .int)) (jr 6 0 0) [.ref x, .int (zI (a)), .int (zI (ln))] F (fun r F' => scr F F' ∧ ((F' 0 0 = 1 ∧ ((0 ≤ a ∧ a < F 3 0) → ∃ b n, LinesOf F a b n ∧ ¬ (0 ≤ ln ∧ ln < n))) ∨ (F' 0 0 = 0 ∧ (0 ≤ a ∧ a < F 3 0) ∧ ∃ b n, LinesOf F a b n ∧ (0 ≤ ln ∧ ln < n) ∧ r = lev F a (b (ln + 1))))) := by
  refine mM_of (L0 := [some (.ref x), some (.int (zI (a))), some (.int (zI (ln))), none, none, none]) hnt (by decide +kernel) rfl (Nat.le_of_ble_eq_true rfl) rfl rfl ?_
  intro Θ hΘ p e s m args below meth c A Q hC hQ
  have hnp := mI_np hI
  refine J_aload_n hC dX3_lineEnd_0 rfl ?_
  refine J_aload_n hC dX3_lineEnd_1 rfl ?_
  refine J_iload_n hC dX3_lineEnd_2 rfl ?_
  refine J_iload_n hC dX3_lineEnd_3 rfl ?_
  refine Jm_callVi (n := 2) hC hΘ (m_isLine hnt hD a ln hI ha hln) (lw_V q1070 q1072 qs27 q61 q1073) ⟨rfl, by decide +kernel⟩ ⟨(Nat.le_of_ble_eq_true rfl), (Nat.le_of_ble_eq_true rfl)⟩ rfl rfl rfl rfl (Nat.le_of_ble_eq_true rfl) dX3_lineEnd_4 ?_
  intro il F1 hr9
  obtain ⟨hs, h00, hil⟩ := hr9
  refine J_if_eq (tgt := 14) hC (by first | with_reducible assumption | exact zR_mk (by omega) (by omega)) dX3_lineEnd_7 rfl (fun c7 => ?_) (fun c7 => ?_)
  · refine J_iconst hC dX3_lineEnd_14 ?_
    refine Jm_callVi (n := 1) hC hΘ (m_holds hnt hD 1 (zR_mk (by omega) (by omega))) (lw_V q994 q996 qs16 q61 q997) ⟨rfl, by decide +kernel⟩ ⟨(Nat.le_of_ble_eq_true rfl), (Nat.le_of_ble_eq_true rfl)⟩ rfl rfl rfl rfl (Nat.le_of_ble_eq_true rfl) dX3_lineEnd_15 ?_
    intro r2 F9 hr9
    obtain ⟨hr2, e9⟩ := hr9
    rw [e9]
    refine J_if_ne (tgt := 23) hC (by first | with_reducible assumption | exact zR_mk (by omega) (by omega)) dX3_lineEnd_18 rfl (fun c18 => ?_) (fun c18 => ?_)
    · omega
    · refine J_iconst hC dX3_lineEnd_21 ?_
      refine Jm_iret hC hQ  ⟨_, rfl, ?_⟩ dX3_lineEnd_22
      refine ⟨scr_tr hs (scr_th 1 hs.2), Or.inl ⟨upF_self _ _ _ _, fun hp => ?_⟩⟩
      rcases hil with ⟨z, -⟩ | ⟨-, z⟩
      · omega
      · exact z hp
  · refine J_iconst hC dX3_lineEnd_10 ?_
    refine J_goto (tgt := 15) hC dX3_lineEnd_11 rfl ?_
    refine Jm_callVi (n := 1) hC hΘ (m_holds hnt hD 0 (zR_mk (by omega) (by omega))) (lw_V q994 q996 qs16 q61 q997) ⟨rfl, by decide +kernel⟩ ⟨(Nat.le_of_ble_eq_true rfl), (Nat.le_of_ble_eq_true rfl)⟩ rfl rfl rfl rfl (Nat.le_of_ble_eq_true rfl) dX3_lineEnd_15 ?_
    intro r2 F9 hr9
    obtain ⟨hr2, e9⟩ := hr9
    rw [e9]
    refine J_if_ne (tgt := 23) hC (by first | with_reducible assumption | exact zR_mk (by omega) (by omega)) dX3_lineEnd_18 rfl (fun c18 => ?_) (fun c18 => ?_)
    · rcases hil with ⟨-, hp, b, n, hL, hM, hl⟩ | ⟨z, -⟩
      · have hs2 := scr_tr hs (scr_th 0 hs.2)
        have ha6 : 0 ≤ a ∧ a < 6 := by omega
        have hmq := sEq_mq hs2.1 a
        have hLn := LinesOf_Ln (mI_pOk hI ha6.1 ha6.2) hL
        have hM2 : Mk (mq F a) (mRow (upF F1 0 0 0) 12 a) b n := hM
        have hN := (mI_mOk hI ha6.1 ha6.2).2.1
        obtain ⟨k, pl, e1, e2, e3, e4, e5, e6⟩ := endc_spec (mI_pOk hI ha6.1 ha6.2) hLn hl.1 hl.2
        rw [mq_N] at e3
        obtain ⟨Lk, hLk⟩ : ∃ z, z = F 8 (F 6 (60 * a + k)) := ⟨_, rfl⟩
        rw [mq_L, ← hLk] at e5 e6
        have hk3 := (mI_mOk hI ha6.1 ha6.2).2.2.1 k e2 e3
        have r6 : (upF F1 0 0 0) 6 = F 6 := hs2.1 6 (by decide) (by decide) (by decide) (by decide) (by decide)
        have r8 : (upF F1 0 0 0) 8 = F 8 := hs2.1 8 (by decide) (by decide) (by decide) (by decide) (by decide)
        refine J_aload_n hC dX3_lineEnd_23 rfl ?_
        refine J_iload_n hC dX3_lineEnd_24 rfl ?_
        refine J_iload_n hC dX3_lineEnd_25 rfl ?_
        refine Jm_callVi (n := 2) hC hΘ (m_endOf hnt hD a ln (sEq_mOk hs2.1 (mI_mOk hI ha6.1 ha6.2)) hs2.2 b n (by rw [hmq]; exact hLn) (by rw [hmq]; exact hM2) hl) (lw_V q1074 q1076 qs28 q61 q1077) ⟨rfl, by decide +kernel⟩ ⟨(Nat.le_of_ble_eq_true rfl), (Nat.le_of_ble_eq_true rfl)⟩ rfl rfl rfl rfl (Nat.le_of_ble_eq_true rfl) dX3_lineEnd_26 ?_
        intro r F9 hr9
        obtain ⟨er9, e9⟩ := hr9
        rw [e9, er9, hmq, e1]
        have ek : (16 * k + pl - 1) / 16 = k := by omega
        refine J_istore_n (i := 3) hC dX3_lineEnd_29 rfl (Nat.le_of_ble_eq_true rfl) ?_
        refine J_aload_n hC dX3_lineEnd_30 rfl ?_
        refine J_iload_n hC dX3_lineEnd_31 rfl ?_
        refine J_iload_n hC dX3_lineEnd_32 rfl ?_
        refine J_iconst hC dX3_lineEnd_33 ?_
        refine J_isub hC dX3_lineEnd_34 ?_
        refine J_bipush hC dX3_lineEnd_35 (by decide) ?_
        refine J_idiv hC dX3_lineEnd_37 (zR_mk (by omega) (by omega)) (zR_mk (by omega) (by omega)) (by omega) (by omega) ?_
        refine Jm_callVi (n := 2) hC hΘ (m_word hnt hD a ((16 * k + pl - 1) / 16) ha6 (by omega)) (lw_V q1029 q1031 qs20 q61 q1032) ⟨rfl, by decide +kernel⟩ ⟨(Nat.le_of_ble_eq_true rfl), (Nat.le_of_ble_eq_true rfl)⟩ rfl rfl rfl rfl (Nat.le_of_ble_eq_true rfl) dX3_lineEnd_38 ?_
        intro wd F9 hr9
        obtain ⟨er9, e9⟩ := hr9
        rw [e9, er9, ek, r6]
        have fin : ∀ v : Int, v = b (ln + 1) % 16 → r = r → 100 * F 6 (60 * a + k) + v = lev F a (b (ln + 1)) := by
          intro v hv _
          unfold lev
          rw [hv]
          congr 3
          congr 1
          split <;> omega
        refine J_istore hC dX3_lineEnd_41 (Nat.le_of_ble_eq_true rfl) ?_
        refine J_iload_n hC dX3_lineEnd_43 rfl ?_
        refine J_bipush hC dX3_lineEnd_44 (by decide) ?_
        refine J_iload_n hC dX3_lineEnd_46 rfl ?_
        refine J_iconst hC dX3_lineEnd_47 ?_
        refine J_isub hC dX3_lineEnd_48 ?_
        refine J_bipush hC dX3_lineEnd_49 (by decide) ?_
        refine J_idiv hC dX3_lineEnd_51 (zR_mk (by omega) (by omega)) (zR_mk (by omega) (by omega)) (by omega) (by omega) ?_
        refine J_imul hC dX3_lineEnd_52 ?_
        refine J_isub hC dX3_lineEnd_53 ?_
        refine J_istore hC dX3_lineEnd_54 (Nat.le_of_ble_eq_true rfl) ?_
        refine J_bipush hC dX3_lineEnd_56 (by decide) ?_
        refine J_iload hC dX3_lineEnd_58 rfl ?_
        refine J_imul hC dX3_lineEnd_60 ?_
        refine J_iload hC dX3_lineEnd_61 rfl ?_
        refine J_aload_n hC dX3_lineEnd_63 rfl ?_
        refine Jm_get hC 8 (by decide) q929 rfl rfl dX3_lineEnd_64 ?_
        refine J_iload hC dX3_lineEnd_67 rfl ?_
        refine Jm_iald hC 8 (n := 60) (v := Lk) (by rw [r8]; exact hLk.symm) rfl (by decide) rfl (by omega) (by omega) dX3_lineEnd_69 ?_
        refine J_icmp_ne (tgt := 77) hC (by first | with_reducible assumption | exact zR_mk (by omega) (by omega)) (by first | with_reducible assumption | exact zR_mk (by omega) (by omega)) dX3_lineEnd_70 rfl (fun c70 => ?_) (fun c70 => ?_)
        · refine J_iload hC dX3_lineEnd_77 rfl ?_
          refine J_iadd hC dX3_lineEnd_79 ?_
          refine Jm_iret hC hQ  ⟨_, rfl, ?_⟩ dX3_lineEnd_80
          exact ⟨hs2, Or.inr ⟨upF_self _ _ _ _, hp, b, n, hL, hl, fin _ (by omega) rfl⟩⟩
        · refine J_iconst hC dX3_lineEnd_73 ?_
          refine J_goto (tgt := 79) hC dX3_lineEnd_74 rfl ?_
          refine J_iadd hC dX3_lineEnd_79 ?_
          refine Jm_iret hC hQ  ⟨_, rfl, ?_⟩ dX3_lineEnd_80
          exact ⟨hs2, Or.inr ⟨upF_self _ _ _ _, hp, b, n, hL, hl, fin _ (by omega) rfl⟩⟩
      · omega
    · omega
set_option maxHeartbeats 4000000 in
theorem m_length {g : jG} {l : Launch} {x : Nat} {AD : Nat → Nat} {F : mF} (hnt : l.stackTraces = false) (hD : mD x AD) (a ln : Int) (hI : mI F) (ha : zR a) (hln : zR ln) : mMi g l x AD yX3_length (ws_ yX3_length cX3_length 11 (some .int)) (jr 6 0 0) [.ref x, .int (zI (a)), .int (zI (ln))] F (fun r F' => scr F F' ∧ ((F' 0 0 = 1 ∧ ((0 ≤ a ∧ a < F 3 0) → ∃ b n, LinesOf F a b n ∧ ¬ (0 ≤ ln ∧ ln < n))) ∨ (F' 0 0 = 0 ∧ (0 ≤ a ∧ a < F 3 0) ∧ ∃ b n, LinesOf F a b n ∧ (0 ≤ ln ∧ ln < n) ∧ r = len (mq F a) (b ln) (b (ln + 1))))) := by
  refine mM_of (L0 := [some (.ref x), some (.int (zI (a))), some (.int (zI (ln))), none, none, none, none, none, none, none, none]) hnt (by decide +kernel) rfl (Nat.le_of_ble_eq_true rfl) rfl rfl ?_
  intro Θ hΘ p e s m args below meth c A Q hC hQ
  have hnp := mI_np hI
  refine J_aload_n hC dX3_length_0 rfl ?_
  refine J_aload_n hC dX3_length_1 rfl ?_
  refine J_iload_n hC dX3_length_2 rfl ?_
  refine J_iload_n hC dX3_length_3 rfl ?_
  refine Jm_callVi (n := 2) hC hΘ (m_isLine hnt hD a ln hI ha hln) (lw_V q1070 q1072 qs27 q61 q1073) ⟨rfl, by decide +kernel⟩ ⟨(Nat.le_of_ble_eq_true rfl), (Nat.le_of_ble_eq_true rfl)⟩ rfl rfl rfl rfl (Nat.le_of_ble_eq_true rfl) dX3_length_4 ?_
  intro il F1 hr9
  obtain ⟨hs, h00, hil⟩ := hr9
  refine J_if_eq (tgt := 14) hC (by first | with_reducible assumption | exact zR_mk (by omega) (by omega)) dX3_length_7 rfl (fun c7 => ?_) (fun c7 => ?_)
  · refine J_iconst hC dX3_length_14 ?_
    refine Jm_callVi (n := 1) hC hΘ (m_holds hnt hD 1 (zR_mk (by omega) (by omega))) (lw_V q994 q996 qs16 q61 q997) ⟨rfl, by decide +kernel⟩ ⟨(Nat.le_of_ble_eq_true rfl), (Nat.le_of_ble_eq_true rfl)⟩ rfl rfl rfl rfl (Nat.le_of_ble_eq_true rfl) dX3_length_15 ?_
    intro r2 F9 hr9
    obtain ⟨hr2, e9⟩ := hr9
    rw [e9]
    refine J_if_ne (tgt := 23) hC (by first | with_reducible assumption | exact zR_mk (by omega) (by omega)) dX3_length_18 rfl (fun c18 => ?_) (fun c18 => ?_)
    · omega
    · refine J_iconst hC dX3_length_21 ?_
      refine Jm_iret hC hQ  ⟨_, rfl, ?_⟩ dX3_length_22
      refine ⟨scr_tr hs (scr_th 1 hs.2), Or.inl ⟨upF_self _ _ _ _, fun hp => ?_⟩⟩
      rcases hil with ⟨z, -⟩ | ⟨-, z⟩
      · omega
      · exact z hp
  · refine J_iconst hC dX3_length_10 ?_
    refine J_goto (tgt := 15) hC dX3_length_11 rfl ?_
    refine Jm_callVi (n := 1) hC hΘ (m_holds hnt hD 0 (zR_mk (by omega) (by omega))) (lw_V q994 q996 qs16 q61 q997) ⟨rfl, by decide +kernel⟩ ⟨(Nat.le_of_ble_eq_true rfl), (Nat.le_of_ble_eq_true rfl)⟩ rfl rfl rfl rfl (Nat.le_of_ble_eq_true rfl) dX3_length_15 ?_
    intro r2 F9 hr9
    obtain ⟨hr2, e9⟩ := hr9
    rw [e9]
    refine J_if_ne (tgt := 23) hC (by first | with_reducible assumption | exact zR_mk (by omega) (by omega)) dX3_length_18 rfl (fun c18 => ?_) (fun c18 => ?_)
    · rcases hil with ⟨-, hp, b, n, hL, hM, hl⟩ | ⟨z, -⟩
      · have hs2 := scr_tr hs (scr_th 0 hs.2)
        have ha6 : 0 ≤ a ∧ a < 6 := by omega
        have hmq := sEq_mq hs2.1 a
        have hLn := LinesOf_Ln (mI_pOk hI ha6.1 ha6.2) hL
        have hM2 : Mk (mq F a) (mRow (upF F1 0 0 0) 12 a) b n := hM
        have hN := (mI_mOk hI ha6.1 ha6.2).2.1
        have hn960 := Ln_n hLn
        rw [mq_N] at hn960
        have hkk := (mI_mOk hI ha6.1 ha6.2).2.2.1
        obtain ⟨k1, pl1, e1, e2, e3, e4, e5, e6⟩ := endc_spec (mI_pOk hI ha6.1 ha6.2) hLn hl.1 hl.2
        rw [mq_N] at e3
        have hk3 := hkk k1 e2 e3
        obtain ⟨L1, hL1⟩ : ∃ z, z = F 8 (F 6 (60 * a + k1)) := ⟨_, rfl⟩
        rw [mq_L, ← hL1] at e5 e6
        rw [← hL1] at hk3
        have hlt := (hLn.2.2.2 ln hl.1 hl.2).1
        have h0b := Ln_bd hLn (i := ln) hl.1 (by omega)
        obtain ⟨G, hG⟩ : ∃ G, G = upF F1 0 0 0 := ⟨_, rfl⟩
        have r6 : G 6 = F 6 := by rw [hG]; exact hs2.1 6 (by decide) (by decide) (by decide) (by decide) (by decide)
        have r8 : G 8 = F 8 := by rw [hG]; exact hs2.1 8 (by decide) (by decide) (by decide) (by decide) (by decide)
        have hsG : scr F G := by rw [hG]; exact hs2
        have hG0 : G 0 0 = 0 := by rw [hG]; exact upF_self _ _ _ _
        rw [← hG] at hmq hM2
        rw [← hG]
        have hOkG := sEq_mOk hsG.1 (mI_mOk hI ha6.1 ha6.2)
        -- the sum over the words between
        have tail : ∀ f bg v7 : Int, 0 ≤ f → 0 ≤ bg → bg < 16 → b ln = 16 * f + bg → J p l e (jr 6 0 0) s m args below meth c A Q (mP g x AD Θ (G) A) 0 0 119 [some (.ref x), some (.int (zI (a))), some (.int (zI (ln))), none, none, some (.int (zI (f))), some (.int (zI (k1))), some (.int (zI (bg))), some (.int (zI (pl1))), none, none] [] := by
          intro f bg v7 hf hbg hbg2 ht
          have hfk : f ≤ k1 := by omega
          have hlen : len (mq F a) (b ln) (b (ln + 1)) = sI (pL (mq F a)) k1 - sI (pL (mq F a)) f - bg + (k1 - f) + pl1 + (if pl1 < L1 then 1 else 0) := by
            rcases e6 with ⟨z1, z2⟩ | ⟨z1, z2⟩
            · rw [z2, fl_out ht hbg hbg2 e2, if_neg (by omega), mq_L, ← hL1]; omega
            · rw [z2, fl_in ht hbg hbg2 (by omega) (by omega), if_pos z1]
          have loop : ∀ (nn : Nat) (k s0 : Int), f ≤ k → k ≤ k1 → k1 - k < nn → s0 = pl1 - bg + k1 - f + (if pl1 < L1 then 1 else 0) + (sI (pL (mq F a)) k - sI (pL (mq F a)) f) → J p l e (jr 6 0 0) s m args below meth c A Q (mP g x AD Θ (G) A) 0 0 159 [some (.ref x), some (.int (zI (a))), some (.int (zI (ln))), none, none, some (.int (zI (f))), some (.int (zI (k1))), some (.int (zI (bg))), some (.int (zI (pl1))), some (.int (zI (s0))), some (.int (zI (k)))] [] := by
            intro nn
            induction nn with
            | zero => intro k s0 g1 g2 g3; omega
            | succ nn ih =>
              intro k s0 g1 g2 g3 hs0
              refine J_iload hC dX3_length_159 rfl ?_
              refine J_iload hC dX3_length_161 rfl ?_
              refine J_icmp_ge (tgt := 189) hC (by first | with_reducible assumption | exact zR_mk (by omega) (by omega)) (by first | with_reducible assumption | exact zR_mk (by omega) (by omega)) dX3_length_163 rfl (fun c163 => ?_) (fun c163 => ?_)
              · refine J_iload hC dX3_length_189 rfl ?_
                refine Jm_iret hC hQ  ⟨_, rfl, ?_⟩ dX3_length_191
                refine ⟨hsG, Or.inr ⟨hG0, hp, b, n, hL, hl, ?_⟩⟩
                rw [hlen, hs0, show k = k1 by omega]
                omega
              · have hkw := hkk k (by omega) (by omega)
                refine J_iload hC dX3_length_166 rfl ?_
                refine J_aload_n hC dX3_length_168 rfl ?_
                refine Jm_get hC 8 (by decide) q929 rfl rfl dX3_length_169 ?_
                refine J_aload_n hC dX3_length_172 rfl ?_
                refine J_iload_n hC dX3_length_173 rfl ?_
                refine J_iload hC dX3_length_174 rfl ?_
                refine Jm_callVi (n := 2) hC hΘ (m_word hnt hD a k ha6 (by omega)) (lw_V q1029 q1031 qs20 q61 q1032) ⟨rfl, by decide +kernel⟩ ⟨(Nat.le_of_ble_eq_true rfl), (Nat.le_of_ble_eq_true rfl)⟩ rfl rfl rfl rfl (Nat.le_of_ble_eq_true rfl) dX3_length_176 ?_
                intro r F9 hr9
                obtain ⟨er9, e9⟩ := hr9
                rw [e9, er9, r6]
                refine Jm_iald hC 8 (n := 60) (v := pL (mq F a) k) (by rw [r8]; rfl) rfl (by decide) rfl (by omega) (by omega) dX3_length_179 ?_
                refine J_iadd hC dX3_length_180 ?_
                refine J_istore hC dX3_length_181 (Nat.le_of_ble_eq_true rfl) ?_
                refine J_iinc hC dX3_length_183 rfl (Nat.le_of_ble_eq_true rfl) ?_
                refine J_goto (tgt := 159) hC dX3_length_186 rfl ?_
                exact ih (k + 1) _ (by omega) (by omega) (by omega) (by rw [hs0, sI_succ _ (by omega)]; omega)
          have j152 : ∀ v : Int, v = (if pl1 < L1 then 1 else 0) → J p l e (jr 6 0 0) s m args below meth c A Q (mP g x AD Θ (G) A) 0 0 152 [some (.ref x), some (.int (zI (a))), some (.int (zI (ln))), none, none, some (.int (zI (f))), some (.int (zI (k1))), some (.int (zI (bg))), some (.int (zI (pl1))), none, none] [.int (zI v), .int (zI (pl1 - bg + k1 - f))] := by
            intro v hv
            refine J_iadd hC dX3_length_152 ?_
            refine J_istore hC dX3_length_153 (Nat.le_of_ble_eq_true rfl) ?_
            refine J_iload hC dX3_length_155 rfl ?_
            refine J_istore hC dX3_length_157 (Nat.le_of_ble_eq_true rfl) ?_
            refine J_forget (L' := [some (.ref x), some (.int (zI (a))), some (.int (zI (ln))), none, none, some (.int (zI (f))), some (.int (zI (k1))), some (.int (zI (bg))), some (.int (zI (pl1))), some (.int (zI (pl1 - bg + k1 - f + v))), some (.int (zI (f)))]) (by simp [jle]) ?_
            exact loop (k1 - f + 1).toNat f _ (Int.le_refl _) hfk (by omega) (by rw [hv]; omega)
          refine J_iload hC dX3_length_119 rfl ?_
          refine J_iload hC dX3_length_121 rfl ?_
          refine J_isub hC dX3_length_123 ?_
          refine J_iload hC dX3_length_124 rfl ?_
          refine J_iadd hC dX3_length_126 ?_
          refine J_iload hC dX3_length_127 rfl ?_
          refine J_isub hC dX3_length_129 ?_
          refine J_iload hC dX3_length_130 rfl ?_
          refine J_aload_n hC dX3_length_132 rfl ?_
          refine Jm_get hC 8 (by decide) q929 rfl rfl dX3_length_133 ?_
          refine J_aload_n hC dX3_length_136 rfl ?_
          refine J_iload_n hC dX3_length_137 rfl ?_
          refine J_iload hC dX3_length_138 rfl ?_
          refine Jm_callVi (n := 2) hC hΘ (m_word hnt hD a k1 ha6 (by omega)) (lw_V q1029 q1031 qs20 q61 q1032) ⟨rfl, by decide +kernel⟩ ⟨(Nat.le_of_ble_eq_true rfl), (Nat.le_of_ble_eq_true rfl)⟩ rfl rfl rfl rfl (Nat.le_of_ble_eq_true rfl) dX3_length_140 ?_
          intro r F9 hr9
          obtain ⟨er9, e9⟩ := hr9
          rw [e9, er9, r6]
          refine Jm_iald hC 8 (n := 60) (v := L1) (by rw [r8]; exact hL1.symm) rfl (by decide) rfl (by omega) (by omega) dX3_length_143 ?_
          refine J_icmp_ge (tgt := 151) hC (by first | with_reducible assumption | exact zR_mk (by omega) (by omega)) (by first | with_reducible assumption | exact zR_mk (by omega) (by omega)) dX3_length_144 rfl (fun c144 => ?_) (fun c144 => ?_)
          · refine J_iconst hC dX3_length_151 ?_
            exact j152 0 (by rw [if_neg (by omega)])
          · refine J_iconst hC dX3_length_147 ?_
            refine J_goto (tgt := 152) hC dX3_length_148 rfl ?_
            exact j152 1 (by rw [if_pos (by omega)])
        -- where the line begins
        have begin : ∀ f0 fr : Int, (ln = 0 ∧ fr = 0 ∨ 0 < ln ∧ ∃ k0 pl0, fr = 16 * k0 + pl0 ∧ 0 ≤ k0 ∧ k0 < F 5 a ∧ 1 ≤ pl0 ∧ pl0 ≤ F 8 (F 6 (60 * a + k0)) ∧ (pl0 = F 8 (F 6 (60 * a + k0)) ∧ b ln = 16 * (k0 + 1) ∨ pl0 < F 8 (F 6 (60 * a + k0)) ∧ b ln = 16 * k0 + pl0)) → (fr = 0 ∧ f0 = 0 ∨ ¬ fr = 0 ∧ f0 = (fr - 1) / 16) → J p l e (jr 6 0 0) s m args below meth c A Q (mP g x AD Θ (G) A) 0 0 62 [some (.ref x), some (.int (zI (a))), some (.int (zI (ln))), some (.int (zI (fr))), some (.int (zI (16 * k1 + pl1))), none, none, none, none, none, none] [.int (zI f0)] := by
          intro f0 fr hfr hf0
          have ek : (16 * k1 + pl1 - 1) / 16 = k1 := by omega
          have ep : 16 * k1 + pl1 - 16 * k1 = pl1 := by omega
          refine J_istore hC dX3_length_62 (Nat.le_of_ble_eq_true rfl) ?_
          refine J_iload hC dX3_length_64 rfl ?_
          refine J_iconst hC dX3_length_66 ?_
          refine J_isub hC dX3_length_67 ?_
          refine J_bipush hC dX3_length_68 (by decide) ?_
          refine J_idiv hC dX3_length_70 (zR_mk (by omega) (by omega)) (zR_mk (by omega) (by omega)) (by omega) (by omega) ?_
          rw [ek]
          refine J_istore hC dX3_length_71 (Nat.le_of_ble_eq_true rfl) ?_
          refine J_iload_n hC dX3_length_73 rfl ?_
          refine J_bipush hC dX3_length_74 (by decide) ?_
          refine J_iload hC dX3_length_76 rfl ?_
          refine J_imul hC dX3_length_78 ?_
          refine J_isub hC dX3_length_79 ?_
          refine J_istore hC dX3_length_80 (Nat.le_of_ble_eq_true rfl) ?_
          refine J_iload hC dX3_length_82 rfl ?_
          refine J_bipush hC dX3_length_84 (by decide) ?_
          refine J_iload hC dX3_length_86 rfl ?_
          refine J_imul hC dX3_length_88 ?_
          refine J_isub hC dX3_length_89 ?_
          rw [ep]
          refine J_istore hC dX3_length_90 (Nat.le_of_ble_eq_true rfl) ?_
          refine J_iload_n hC dX3_length_92 rfl ?_
          refine J_if_le (tgt := 119) hC (by first | with_reducible assumption | exact zR_mk (by omega) (by omega)) dX3_length_93 rfl (fun c93 => ?_) (fun c93 => ?_)
          · have e0 : ln = 0 := by omega
            have hb0 := hLn.2.1
            refine J_forget (L' := [some (.ref x), some (.int (zI (a))), some (.int (zI (ln))), none, none, some (.int (zI (f0))), some (.int (zI (k1))), some (.int (zI (fr - 16 * f0))), some (.int (zI (pl1))), none, none]) (by simp [jle]) ?_
            exact tail f0 (fr - 16 * f0) 0 (by omega) (by omega) (by omega) (by rw [e0, hb0]; omega)
          · rcases hfr with ⟨z, -⟩ | ⟨hl0, k0, pl0, z1, z2, z3, z4, z5, z6⟩
            · omega
            · have hf00 : f0 = k0 := by
                have hk0 := hkk k0 z2 z3
                omega
              subst hf00
              have hk0 := hkk f0 z2 z3
              refine J_iload hC dX3_length_96 rfl ?_
              refine J_aload_n hC dX3_length_98 rfl ?_
              refine Jm_get hC 8 (by decide) q929 rfl rfl dX3_length_99 ?_
              refine J_aload_n hC dX3_length_102 rfl ?_
              refine J_iload_n hC dX3_length_103 rfl ?_
              refine J_iload hC dX3_length_104 rfl ?_
              refine Jm_callVi (n := 2) hC hΘ (m_word hnt hD a f0 ha6 (by omega)) (lw_V q1029 q1031 qs20 q61 q1032) ⟨rfl, by decide +kernel⟩ ⟨(Nat.le_of_ble_eq_true rfl), (Nat.le_of_ble_eq_true rfl)⟩ rfl rfl rfl rfl (Nat.le_of_ble_eq_true rfl) dX3_length_106 ?_
              intro r F9 hr9
              obtain ⟨er9, e9⟩ := hr9
              rw [e9, er9, r6]
              refine Jm_iald hC 8 (n := 60) (v := F 8 (F 6 (60 * a + f0))) (by rw [r8]) rfl (by decide) rfl (by omega) (by omega) dX3_length_109 ?_
              refine J_icmp_ne (tgt := 119) hC (by first | with_reducible assumption | exact zR_mk (by omega) (by omega)) (by first | with_reducible assumption | exact zR_mk (by omega) (by omega)) dX3_length_110 rfl (fun c110 => ?_) (fun c110 => ?_)
              · refine J_forget (L' := [some (.ref x), some (.int (zI (a))), some (.int (zI (ln))), none, none, some (.int (zI (f0))), some (.int (zI (k1))), some (.int (zI (fr - 16 * f0))), some (.int (zI (pl1))), none, none]) (by simp [jle]) ?_
                exact tail f0 (fr - 16 * f0) 0 (by omega) (by omega) (by omega) (by omega)
              · refine J_iinc hC dX3_length_113 rfl (Nat.le_of_ble_eq_true rfl) ?_
                refine J_iconst hC dX3_length_116 ?_
                refine J_istore hC dX3_length_117 (Nat.le_of_ble_eq_true rfl) ?_
                refine J_forget (L' := [some (.ref x), some (.int (zI (a))), some (.int (zI (ln))), none, none, some (.int (zI (f0 + 1))), some (.int (zI (k1))), some (.int (zI (0))), some (.int (zI (pl1))), none, none]) (by simp [jle]) ?_
                exact tail (f0 + 1) 0 0 (by omega) (by omega) (by omega) (by omega)
        have j39 : ∀ fr : Int, (ln = 0 ∧ fr = 0 ∨ 0 < ln ∧ ∃ k0 pl0, fr = 16 * k0 + pl0 ∧ 0 ≤ k0 ∧ k0 < F 5 a ∧ 1 ≤ pl0 ∧ pl0 ≤ F 8 (F 6 (60 * a + k0)) ∧ (pl0 = F 8 (F 6 (60 * a + k0)) ∧ b ln = 16 * (k0 + 1) ∨ pl0 < F 8 (F 6 (60 * a + k0)) ∧ b ln = 16 * k0 + pl0)) → J p l e (jr 6 0 0) s m args below meth c A Q (mP g x AD Θ (G) A) 0 0 39 [some (.ref x), some (.int (zI (a))), some (.int (zI (ln))), none, none, none, none, none, none, none, none] [.int (zI fr)] := by
          intro fr hfr
          have hfrb : 0 ≤ fr ∧ fr ≤ 976 := by
            rcases hfr with ⟨-, z⟩ | ⟨-, k0, pl0, z1, z2, z3, z4, z5, z6⟩
            · omega
            · have := hkk k0 z2 z3
              omega
          refine J_istore_n (i := 3) hC dX3_length_39 rfl (Nat.le_of_ble_eq_true rfl) ?_
          refine J_aload_n hC dX3_length_40 rfl ?_
          refine J_iload_n hC dX3_length_41 rfl ?_
          refine J_iload_n hC dX3_length_42 rfl ?_
          refine Jm_callVi (n := 2) hC hΘ (m_endOf hnt hD a ln hOkG hsG.2 b n (by rw [hmq]; exact hLn) (by rw [hmq]; exact hM2) hl) (lw_V q1074 q1076 qs28 q61 q1077) ⟨rfl, by decide +kernel⟩ ⟨(Nat.le_of_ble_eq_true rfl), (Nat.le_of_ble_eq_true rfl)⟩ rfl rfl rfl rfl (Nat.le_of_ble_eq_true rfl) dX3_length_43 ?_
          intro r F9 hr9
          obtain ⟨er9, e9⟩ := hr9
          rw [e9, er9, hmq, e1]
          refine J_istore hC dX3_length_46 (Nat.le_of_ble_eq_true rfl) ?_
          refine J_iload_n hC dX3_length_48 rfl ?_
          refine J_if_ne (tgt := 56) hC (by first | with_reducible assumption | exact zR_mk (by omega) (by omega)) dX3_length_49 rfl (fun c49 => ?_) (fun c49 => ?_)
          · refine J_iload_n hC dX3_length_56 rfl ?_
            refine J_iconst hC dX3_length_57 ?_
            refine J_isub hC dX3_length_58 ?_
            refine J_bipush hC dX3_length_59 (by decide) ?_
            refine J_idiv hC dX3_length_61 (zR_mk (by omega) (by omega)) (zR_mk (by omega) (by omega)) (by omega) (by omega) ?_
            exact begin _ fr hfr (Or.inr ⟨c49, rfl⟩)
          · refine J_iconst hC dX3_length_52 ?_
            refine J_goto (tgt := 62) hC dX3_length_53 rfl ?_
            exact begin 0 fr hfr (Or.inl ⟨c49, rfl⟩)
        refine J_iload_n hC dX3_length_23 rfl ?_
        refine J_if_ne (tgt := 31) hC (by first | with_reducible assumption | exact zR_mk (by omega) (by omega)) dX3_length_24 rfl (fun c24 => ?_) (fun c24 => ?_)
        · obtain ⟨k0, pl0, y1, y2, y3, y4, y5, y6⟩ := endc_spec (mI_pOk hI ha6.1 ha6.2) hLn (i := ln - 1) (by omega) (by omega)
          rw [show ln - 1 + 1 = ln by omega] at y1 y6
          rw [mq_N] at y3
          rw [mq_L] at y5 y6
          refine J_aload_n hC dX3_length_31 rfl ?_
          refine J_iload_n hC dX3_length_32 rfl ?_
          refine J_iload_n hC dX3_length_33 rfl ?_
          refine J_iconst hC dX3_length_34 ?_
          refine J_isub hC dX3_length_35 ?_
          refine Jm_callVi (n := 2) hC hΘ (m_endOf hnt hD a (ln - 1) hOkG hsG.2 b n (by rw [hmq]; exact hLn) (by rw [hmq]; exact hM2) (by omega)) (lw_V q1074 q1076 qs28 q61 q1077) ⟨rfl, by decide +kernel⟩ ⟨(Nat.le_of_ble_eq_true rfl), (Nat.le_of_ble_eq_true rfl)⟩ rfl rfl rfl rfl (Nat.le_of_ble_eq_true rfl) dX3_length_36 ?_
          intro r F9 hr9
          obtain ⟨er9, e9⟩ := hr9
          rw [e9, er9, hmq, show ln - 1 + 1 = ln by omega, y1]
          exact j39 _ (Or.inr ⟨by omega, k0, pl0, rfl, y2, y3, y4, y5, y6⟩)
        · refine J_iconst hC dX3_length_27 ?_
          refine J_goto (tgt := 39) hC dX3_length_28 rfl ?_
          exact j39 0 (Or.inl ⟨c24, rfl⟩)
      · omega
    · omega
