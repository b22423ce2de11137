/-! THE MODEL: pages, linesOn, where -/
set_option maxRecDepth 100000
/-- c p: how many lines each paragraph has -/
def CntOf (F : mF) (c : Int → Int) : Prop := ∀ p, 0 ≤ p → p < F 3 0 → ∃ b, LinesOf F p b (c p)
theorem CntOf_cOk {F : mF} {c : Int → Int} (hI : mI F) (h : CntOf F c) : cOk c (F 3 0) := by
  have hnp := mI_np hI
  refine ⟨hnp.1, hnp.2, fun p p1 p2 => ?_⟩
  obtain ⟨b, hb⟩ := h p p1 p2
  have hL := LinesOf_Ln (mI_pOk hI p1 (by omega)) hb
  have h1 := Ln_n hL
  have h2 := (mI_mOk hI p1 (by omega)).2.1
  rw [mq_N] at h1
  exact ⟨hL.1, by omega⟩
theorem CntOf_eq {F : mF} {c c' : Int → Int} (hI : mI F) (h : CntOf F c) (h' : CntOf F c') : ∀ p, 0 ≤ p → p < F 3 0 → c p = c' p := fun p p1 p2 => by
  have hnp := mI_np hI
  obtain ⟨b, hb⟩ := h p p1 p2
  obtain ⟨b', hb'⟩ := h' p p1 p2
  exact (LinesOf_uniq (mI_pOk hI p1 (by omega)) hb hb').1
theorem Mkd_Cnt {F F' : mF} (h : ∀ p, 0 ≤ p → p < F 3 0 → Mkd F F' p) : CntOf F (F' 16) := fun p p1 p2 => by
  obtain ⟨b, hb, -⟩ := h p p1 p2
  exact ⟨b, hb⟩
theorem m_pages {g : jG} {l : Launch} {x : Nat} {AD : Nat → Nat} {F : mF} (hnt : l.stackTraces = false) (hD : mD x AD) (hI : mI F) : mMi g l x AD yX3_pages (ws_ yX3_pages cX3_pages 4 (some .int)) (jr 5 0 0) [.ref x] F (fun r F' => scr F F' ∧ F' 0 0 = 0 ∧ ∃ c, CntOf F c ∧ PagesR c (F 3 0) (F 2 0) r) := by
  refine mM_of (L0 := [some (.ref x), none, none, none]) hnt (by decide +kernel) rfl (Nat.le_of_ble_eq_true rfl) rfl rfl ?_
  intro Θ hΘ p e s m args below meth c A Q hC hQ
  have hnp := mI_np hI
  have hh := mI_height hI
  refine J_aload_n hC dX3_pages_0 rfl ?_
  refine J_iconst hC dX3_pages_1 ?_
  refine Jm_put hC hD hΘ 0 rfl q921 rfl (by decide) dX3_pages_2 ?_
  refine J_aload_n hC dX3_pages_5 rfl ?_
  refine Jm_callVv (n := 0) hC hΘ (m_marksAll hnt hD (scr_mI (scr_th 0 (mI_B hI)) hI)) (lw_V q1098 q1100 qs30 q61 q1101) ⟨rfl, by decide +kernel⟩ ⟨(Nat.le_of_ble_eq_true rfl), (Nat.le_of_ble_eq_true rfl)⟩ rfl rfl rfl rfl (Nat.le_of_ble_eq_true rfl) dX3_pages_6 ?_
  intro F1 hr9
  obtain ⟨hs, h0, hm⟩ := hr9
  have hs0 := scr_th 0 (mI_B hI)
  have hs1 := scr_tr hs0 hs
  have hm : ∀ p, 0 ≤ p → p < F 3 0 → Mkd F F1 p := fun p p1 p2 => by
    obtain ⟨b, y1, y2⟩ := hm p p1 p2
    exact ⟨b, (LinesOf_scr hs0.1).mp y1, by rw [sEq_mq hs0.1] at y2; exact y2⟩
  have hcnt := Mkd_Cnt hm
  have hc := CntOf_cOk hI hcnt
  have e3 : F1 3 0 = F 3 0 := by rw [hs1.1 3 (by decide) (by decide) (by decide) (by decide) (by decide)]
  have e2 : F1 2 0 = F 2 0 := by rw [hs1.1 2 (by decide) (by decide) (by decide) (by decide) (by decide)]
  have hall := cOk_bd hc hnp.1 (Int.le_refl _)
  have hc1 : cOk (F1 16) (F1 3 0) := by rw [e3]; exact hc
  have hh1 : 3 ≤ F1 2 0 ∧ F1 2 0 ≤ 20 := by rw [e2]; exact hh
  have loop : ∀ (n : Nat) (m1 : Int) (s0 : Int → Int), 0 ≤ m1 → PgC (F1 16) (F 3 0) (F 2 0) (sI (F1 16) (F 3 0)) s0 m1 → sI (F1 16) (F 3 0) - s0 m1 < n → J p l e (jr 5 0 0) s m args below meth c A Q (mP g x AD Θ (F1) A) 0 0 22 [some (.ref x), some (.int (zI (sI (F1 16) (F 3 0)))), some (.int (zI (m1))), some (.int (zI (s0 m1)))] [] := by
    intro n
    induction n with
    | zero =>
      intro m1 s0 h1 h2 h3
      have := PgC_bd hh hall.1 h2 m1 h1 (Int.le_refl _)
      omega
    | succ n ih =>
      intro m1 s0 h1 h2 h3
      have hb := PgC_bd hh hall.1 h2 m1 h1 (Int.le_refl _)
      refine J_iload_n hC dX3_pages_22 rfl ?_
      refine J_iload_n hC dX3_pages_23 rfl ?_
      refine J_icmp_ge (tgt := 42) hC (by first | with_reducible assumption | exact zR_mk (by omega) (by omega)) (by first | with_reducible assumption | exact zR_mk (by omega) (by omega)) dX3_pages_24 rfl (fun c24 => ?_) (fun c24 => ?_)
      · refine J_iload_n hC dX3_pages_42 rfl ?_
        refine Jm_iret hC hQ  ⟨_, rfl, ?_⟩ dX3_pages_43
        refine ⟨hs1, by rw [h0]; exact upF_self _ _ _ _, F1 16, hcnt, s0, h1, h2, by omega⟩
      · refine J_iload_n hC dX3_pages_27 rfl ?_
        refine J_aload_n hC dX3_pages_28 rfl ?_
        refine J_iload_n hC dX3_pages_29 rfl ?_
        refine J_iload_n hC dX3_pages_30 rfl ?_
        refine Jm_callVi (n := 2) hC hΘ (m_puts hnt hD (s0 m1) (sI (F1 16) (F 3 0)) hc1 hh1 (by rw [e3]) ⟨by omega, by omega⟩) (lw_V q1106 q1108 qs32 q61 q1109) ⟨rfl, by decide +kernel⟩ ⟨(Nat.le_of_ble_eq_true rfl), (Nat.le_of_ble_eq_true rfl)⟩ rfl rfl rfl rfl (Nat.le_of_ble_eq_true rfl) dX3_pages_31 ?_
        intro r1 F9 hr9
        obtain ⟨hpg, e9⟩ := hr9
        rw [e9]
        rw [e3, e2] at hpg
        obtain ⟨k1, k2, k3⟩ := PgC_step h1 h2 (by omega) hpg
        have hpr := PgE_prog hh ⟨by omega, by omega⟩ hpg
        refine J_iadd hC dX3_pages_34 ?_
        refine J_istore_n (i := 3) hC dX3_pages_35 rfl (Nat.le_of_ble_eq_true rfl) ?_
        refine J_iinc hC dX3_pages_36 rfl (Nat.le_of_ble_eq_true rfl) ?_
        refine J_goto (tgt := 22) hC dX3_pages_39 rfl ?_
        rw [← k2]
        exact ih (m1 + 1) _ (by omega) k1 (by rw [k2]; omega)
  refine J_aload_n hC dX3_pages_9 rfl ?_
  refine J_aload_n hC dX3_pages_10 rfl ?_
  refine Jm_gets hC 3 (v := F 3 0) e3 rfl q924 rfl dX3_pages_11 ?_
  refine Jm_callVi (n := 1) hC hΘ (m_ahead hnt hD (F 3 0) hnp) (lw_V q1102 q1104 qs31 q61 q1105) ⟨rfl, by decide +kernel⟩ ⟨(Nat.le_of_ble_eq_true rfl), (Nat.le_of_ble_eq_true rfl)⟩ rfl rfl rfl rfl (Nat.le_of_ble_eq_true rfl) dX3_pages_14 ?_
  intro r F9 hr9
  obtain ⟨er9, e9⟩ := hr9
  rw [e9, er9]
  refine J_istore_n (i := 1) hC dX3_pages_17 rfl (Nat.le_of_ble_eq_true rfl) ?_
  refine J_iconst hC dX3_pages_18 ?_
  refine J_istore_n (i := 2) hC dX3_pages_19 rfl (Nat.le_of_ble_eq_true rfl) ?_
  refine J_iconst hC dX3_pages_20 ?_
  refine J_istore_n (i := 3) hC dX3_pages_21 rfl (Nat.le_of_ble_eq_true rfl) ?_
  exact loop (sI (F1 16) (F 3 0) + 1).toNat 0 (fun _ => 0) (Int.le_refl _) PgC_0 (by omega)
theorem m_linesOn {g : jG} {l : Launch} {x : Nat} {AD : Nat → Nat} {F : mF} (hnt : l.stackTraces = false) (hD : mD x AD) (pg : Int) (hI : mI F) (hpg : zR pg) : mMi g l x AD yX3_linesOn (ws_ yX3_linesOn cX3_linesOn 6 (some .int)) (jr 5 0 0) [.ref x, .int (zI (pg))] F (fun r F' => scr F F' ∧ ((F' 0 0 = 1 ∧ pg < 0) ∨ (F' 0 0 = 0 ∧ 0 ≤ pg ∧ ∃ c, CntOf F c ∧ LinesOnR c (F 3 0) (F 2 0) pg r))) := by
  refine mM_of (L0 := [some (.ref x), some (.int (zI (pg))), none, none, none, none]) hnt (by decide +kernel) rfl (Nat.le_of_ble_eq_true rfl) rfl rfl ?_
  intro Θ hΘ p e s m args below meth c A Q hC hQ
  have hnp := mI_np hI
  have hh := mI_height hI
  refine J_aload_n hC dX3_linesOn_0 rfl ?_
  refine J_iload_n hC dX3_linesOn_1 rfl ?_
  refine J_if_lt (tgt := 9) hC (by first | with_reducible assumption | exact zR_mk (by omega) (by omega)) dX3_linesOn_2 rfl (fun c2 => ?_) (fun c2 => ?_)
  · refine J_iconst hC dX3_linesOn_9 ?_
    refine Jm_callVi (n := 1) hC hΘ (m_holds hnt hD 1 (zR_mk (by omega) (by omega))) (lw_V q994 q996 qs16 q61 q997) ⟨rfl, by decide +kernel⟩ ⟨(Nat.le_of_ble_eq_true rfl), (Nat.le_of_ble_eq_true rfl)⟩ rfl rfl rfl rfl (Nat.le_of_ble_eq_true rfl) dX3_linesOn_10 ?_
    intro r2 F9 hr9
    obtain ⟨hr2, e9⟩ := hr9
    rw [e9]
    refine J_if_ne (tgt := 18) hC (by first | with_reducible assumption | exact zR_mk (by omega) (by omega)) dX3_linesOn_13 rfl (fun c13 => ?_) (fun c13 => ?_)
    · omega
    · refine J_iconst hC dX3_linesOn_16 ?_
      refine Jm_iret hC hQ  ⟨_, rfl, ?_⟩ dX3_linesOn_17
      exact ⟨scr_th 1 (mI_B hI), Or.inl ⟨upF_self _ _ _ _, c2⟩⟩
  · refine J_iconst hC dX3_linesOn_5 ?_
    refine J_goto (tgt := 10) hC dX3_linesOn_6 rfl ?_
    refine Jm_callVi (n := 1) hC hΘ (m_holds hnt hD 0 (zR_mk (by omega) (by omega))) (lw_V q994 q996 qs16 q61 q997) ⟨rfl, by decide +kernel⟩ ⟨(Nat.le_of_ble_eq_true rfl), (Nat.le_of_ble_eq_true rfl)⟩ rfl rfl rfl rfl (Nat.le_of_ble_eq_true rfl) dX3_linesOn_10 ?_
    intro r2 F9 hr9
    obtain ⟨hr2, e9⟩ := hr9
    rw [e9]
    refine J_if_ne (tgt := 18) hC (by first | with_reducible assumption | exact zR_mk (by omega) (by omega)) dX3_linesOn_13 rfl (fun c13 => ?_) (fun c13 => ?_)
    · refine J_aload_n hC dX3_linesOn_18 rfl ?_
      refine Jm_callVv (n := 0) hC hΘ (m_marksAll hnt hD (scr_mI (scr_th 0 (mI_B hI)) hI)) (lw_V q1098 q1100 qs30 q61 q1101) ⟨rfl, by decide +kernel⟩ ⟨(Nat.le_of_ble_eq_true rfl), (Nat.le_of_ble_eq_true rfl)⟩ rfl rfl rfl rfl (Nat.le_of_ble_eq_true rfl) dX3_linesOn_19 ?_
      intro F1 hr9
      obtain ⟨hs, h0, hm⟩ := hr9
      have hs0 := scr_th 0 (mI_B hI)
      have hs1 := scr_tr hs0 hs
      have hm : ∀ p, 0 ≤ p → p < F 3 0 → Mkd F F1 p := fun p p1 p2 => by
        obtain ⟨b, y1, y2⟩ := hm p p1 p2
        exact ⟨b, (LinesOf_scr hs0.1).mp y1, by rw [sEq_mq hs0.1] at y2; exact y2⟩
      have hcnt := Mkd_Cnt hm
      have hc := CntOf_cOk hI hcnt
      have e3 : F1 3 0 = F 3 0 := by rw [hs1.1 3 (by decide) (by decide) (by decide) (by decide) (by decide)]
      have e2 : F1 2 0 = F 2 0 := by rw [hs1.1 2 (by decide) (by decide) (by decide) (by decide) (by decide)]
      have hall := cOk_bd hc hnp.1 (Int.le_refl _)
      have hc1 : cOk (F1 16) (F1 3 0) := by rw [e3]; exact hc
      have hh1 : 3 ≤ F1 2 0 ∧ F1 2 0 ≤ 20 := by rw [e2]; exact hh
      have loop : ∀ (n : Nat) (m1 : Int) (s0 : Int → Int), 0 ≤ m1 → m1 ≤ pg → PgC (F1 16) (F 3 0) (F 2 0) (sI (F1 16) (F 3 0)) s0 m1 → sI (F1 16) (F 3 0) - s0 m1 < n → J p l e (jr 5 0 0) s m args below meth c A Q (mP g x AD Θ (F1) A) 0 0 36 [some (.ref x), some (.int (zI (pg))), some (.int (zI (sI (F1 16) (F 3 0)))), some (.int (zI (m1))), some (.int (zI (s0 m1))), none] [] := by
        intro n
        induction n with
        | zero =>
          intro m1 s0 h1 h1b h2 h3
          have := PgC_bd hh hall.1 h2 m1 h1 (Int.le_refl _)
          omega
        | succ n ih =>
          intro m1 s0 h1 h1b h2 h3
          have hb := PgC_bd hh hall.1 h2 m1 h1 (Int.le_refl _)
          refine J_iload hC dX3_linesOn_36 rfl ?_
          refine J_iload_n hC dX3_linesOn_38 rfl ?_
          refine J_icmp_ge (tgt := 72) hC (by first | with_reducible assumption | exact zR_mk (by omega) (by omega)) (by first | with_reducible assumption | exact zR_mk (by omega) (by omega)) dX3_linesOn_39 rfl (fun c39 => ?_) (fun c39 => ?_)
          · refine J_iconst hC dX3_linesOn_72 ?_
            refine Jm_iret hC hQ  ⟨_, rfl, ?_⟩ dX3_linesOn_73
            exact ⟨hs1, Or.inr ⟨by rw [h0]; exact upF_self _ _ _ _, by omega, F1 16, hcnt, s0, m1, h1, h2, Or.inr ⟨h1b, by omega, rfl⟩⟩⟩
          · refine J_aload_n hC dX3_linesOn_42 rfl ?_
            refine J_iload hC dX3_linesOn_43 rfl ?_
            refine J_iload_n hC dX3_linesOn_45 rfl ?_
            refine Jm_callVi (n := 2) hC hΘ (m_puts hnt hD (s0 m1) (sI (F1 16) (F 3 0)) hc1 hh1 (by rw [e3]) ⟨by omega, by omega⟩) (lw_V q1106 q1108 qs32 q61 q1109) ⟨rfl, by decide +kernel⟩ ⟨(Nat.le_of_ble_eq_true rfl), (Nat.le_of_ble_eq_true rfl)⟩ rfl rfl rfl rfl (Nat.le_of_ble_eq_true rfl) dX3_linesOn_46 ?_
            intro r1 F9 hr9
            obtain ⟨hpgE, e9⟩ := hr9
            rw [e9]
            rw [e3, e2] at hpgE
            obtain ⟨k1, k2, k3⟩ := PgC_step h1 h2 (by omega) hpgE
            have hpr := PgE_prog hh ⟨by omega, by omega⟩ hpgE
            refine J_istore hC dX3_linesOn_49 (Nat.le_of_ble_eq_true rfl) ?_
            refine J_iload_n hC dX3_linesOn_51 rfl ?_
            refine J_iload_n hC dX3_linesOn_52 rfl ?_
            refine J_icmp_ne (tgt := 59) hC (by first | with_reducible assumption | exact zR_mk (by omega) (by omega)) (by first | with_reducible assumption | exact zR_mk (by omega) (by omega)) dX3_linesOn_53 rfl (fun c53 => ?_) (fun c53 => ?_)
            · refine J_iload hC dX3_linesOn_59 rfl ?_
              refine J_iload hC dX3_linesOn_61 rfl ?_
              refine J_iadd hC dX3_linesOn_63 ?_
              refine J_istore hC dX3_linesOn_64 (Nat.le_of_ble_eq_true rfl) ?_
              refine J_iinc hC dX3_linesOn_66 rfl (Nat.le_of_ble_eq_true rfl) ?_
              refine J_goto (tgt := 36) hC dX3_linesOn_69 rfl ?_
              rw [← k2]
              refine J_forget (L' := [some (.ref x), some (.int (zI (pg))), some (.int (zI (sI (F1 16) (F 3 0)))), some (.int (zI (m1 + 1))), some (.int (zI (upI s0 (m1 + 1) (s0 m1 + r1) (m1 + 1)))), none]) (by simp [jle]) ?_
              exact ih (m1 + 1) _ (by omega) (by omega) k1 (by rw [k2]; omega)
            · refine J_iload hC dX3_linesOn_56 rfl ?_
              refine Jm_iret hC hQ  ⟨_, rfl, ?_⟩ dX3_linesOn_58
              refine ⟨hs1, Or.inr ⟨by rw [h0]; exact upF_self _ _ _ _, by omega, F1 16, hcnt, _, m1 + 1, by omega, k1, Or.inl ⟨by omega, ?_⟩⟩⟩
              rw [k2, show m1 + 1 - 1 = m1 by omega, k3 m1 (Int.le_refl _)]
              omega
      refine J_aload_n hC dX3_linesOn_22 rfl ?_
      refine J_aload_n hC dX3_linesOn_23 rfl ?_
      refine Jm_gets hC 3 (v := F 3 0) e3 rfl q924 rfl dX3_linesOn_24 ?_
      refine Jm_callVi (n := 1) hC hΘ (m_ahead hnt hD (F 3 0) hnp) (lw_V q1102 q1104 qs31 q61 q1105) ⟨rfl, by decide +kernel⟩ ⟨(Nat.le_of_ble_eq_true rfl), (Nat.le_of_ble_eq_true rfl)⟩ rfl rfl rfl rfl (Nat.le_of_ble_eq_true rfl) dX3_linesOn_27 ?_
      intro r F9 hr9
      obtain ⟨er9, e9⟩ := hr9
      rw [e9, er9]
      refine J_istore_n (i := 2) hC dX3_linesOn_30 rfl (Nat.le_of_ble_eq_true rfl) ?_
      refine J_iconst hC dX3_linesOn_31 ?_
      refine J_istore_n (i := 3) hC dX3_linesOn_32 rfl (Nat.le_of_ble_eq_true rfl) ?_
      refine J_iconst hC dX3_linesOn_33 ?_
      refine J_istore hC dX3_linesOn_34 (Nat.le_of_ble_eq_true rfl) ?_
      exact loop (sI (F1 16) (F 3 0) + 1).toNat 0 (fun _ => 0) (Int.le_refl _) (by omega) PgC_0 (by omega)
    · omega
/-- where a word is: by the lines of the paragraphs ahead and by those that end ahead of it in its own -/
def WhOf (F : mF) (w r : Int) : Prop := ∃ c b m, CntOf F c ∧ LinesOf F (F 9 w) b (c (F 9 w)) ∧ lnAt b (c (F 9 w)) m (16 * F 10 w) ∧ WhereR c (F 3 0) (F 2 0) (sI c (F 9 w) + m) r
theorem WhOf_uniq {F : mF} {w r r' : Int} (hI : mI F) (hw : 0 ≤ w ∧ w < F 7 0) (h : WhOf F w r) (h' : WhOf F w r') : r = r' := by
  obtain ⟨c, b, m, h1, h2, h3, h4⟩ := h
  obtain ⟨c', b', m', h1', h2', h3', h4'⟩ := h'
  have hnp := mI_np hI
  have hww := mI_w hI hw.1 hw.2
  have hc := CntOf_cOk hI h1
  have hcc := CntOf_eq hI h1 h1'
  have hp6 : F 9 w < 6 := by omega
  have hq := mI_pOk hI hww.2.2.1 hp6
  obtain ⟨e, hb⟩ := LinesOf_uniq hq h2 h2'
  have hL := LinesOf_Ln hq h2
  have hL' := LinesOf_Ln hq h2'
  have h3b : lnAt b' (c' (F 9 w)) m (16 * F 10 w) := by
    obtain ⟨a1, a2, a3, a4⟩ := h3
    rw [← e]
    exact ⟨a1, a2, by rw [← hb m a1 a2]; exact a3, fun z => by rw [← hb (m + 1) (by omega) (by omega)]; exact a4 z⟩
  have em := lnAt_uniq hL' h3b h3'
  subst em
  have es : sI c (F 9 w) = sI c' (F 9 w) := sI_congr hww.2.2.1 (fun j y1 y2 => hcc j y1 (by omega))
  rw [es] at h4
  exact WhereR_uniq (mI_height hI) hc hcc h4 h4'
set_option maxHeartbeats 4000000 in
theorem m_whereOf {g : jG} {l : Launch} {x : Nat} {AD : Nat → Nat} {F : mF} (hnt : l.stackTraces = false) (hD : mD x AD) (w : Int) (hI : mI F) (hw : 0 ≤ w ∧ w < F 7 0) : mMi g l x AD yX3_whereOf (ws_ yX3_whereOf cX3_whereOf 6 (some .int)) (jr 5 0 0) [.ref x, .int (zI (w))] F (fun r F' => scr F F' ∧ F' 0 = F 0 ∧ WhOf F w r) := by
  refine mM_of (L0 := [some (.ref x), some (.int (zI (w))), none, none, none, none]) hnt (by decide +kernel) rfl (Nat.le_of_ble_eq_true rfl) rfl rfl ?_
  intro Θ hΘ p e s m args below meth c A Q hC hQ
  have hnp := mI_np hI
  have hnw := mI_nw hI
  have hh := mI_height hI
  have hww := mI_w hI hw.1 hw.2
  have hp6 : F 9 w < 6 := by omega
  have hN := (mI_mOk hI hww.2.2.1 hp6).2.1
  refine J_aload_n hC dX3_whereOf_0 rfl ?_
  refine Jm_callVv (n := 0) hC hΘ (m_marksAll hnt hD hI) (lw_V q1098 q1100 qs30 q61 q1101) ⟨rfl, by decide +kernel⟩ ⟨(Nat.le_of_ble_eq_true rfl), (Nat.le_of_ble_eq_true rfl)⟩ rfl rfl rfl rfl (Nat.le_of_ble_eq_true rfl) dX3_whereOf_1 ?_
  intro F1 hr9
  obtain ⟨hs1, h0, hm⟩ := hr9
  have hcnt := Mkd_Cnt hm
  have hc := CntOf_cOk hI hcnt
  have e3 : F1 3 0 = F 3 0 := by rw [hs1.1 3 (by decide) (by decide) (by decide) (by decide) (by decide)]
  have e2 : F1 2 0 = F 2 0 := by rw [hs1.1 2 (by decide) (by decide) (by decide) (by decide) (by decide)]
  have e9 : F1 9 w = F 9 w := by rw [hs1.1 9 (by decide) (by decide) (by decide) (by decide) (by decide)]
  have e10 : F1 10 w = F 10 w := by rw [hs1.1 10 (by decide) (by decide) (by decide) (by decide) (by decide)]
  have e6 : F1 6 = F 6 := hs1.1 6 (by decide) (by decide) (by decide) (by decide) (by decide)
  have hall := cOk_bd hc hnp.1 (Int.le_refl _)
  have hc1 : cOk (F1 16) (F1 3 0) := by rw [e3]; exact hc
  have hh1 : 3 ≤ F1 2 0 ∧ F1 2 0 ≤ 20 := by rw [e2]; exact hh
  obtain ⟨b, hL, hM⟩ := hm (F 9 w) hww.2.2.1 hww.2.2.2.1
  have hLn := LinesOf_Ln (mI_pOk hI hww.2.2.1 hp6) hL
  have hat := lnAt_words hLn hM (F 10 w) hww.2.2.2.2.1 (by rw [mq_N]; omega)
  obtain ⟨mm, hmm⟩ : ∃ z, z = sI (mE F1 (F 9 w)) (F 10 w) := ⟨_, rfl⟩
  have hat : lnAt b (F1 16 (F 9 w)) mm (16 * F 10 w) := by
    rw [hmm]
    have e : (fun k => sI (mRow F1 12 (F 9 w) k) 16) = mE F1 (F 9 w) := rfl
    rw [← e]
    exact hat
  have hmlt : 0 ≤ mm ∧ mm < F1 16 (F 9 w) := by
    refine ⟨hat.1, ?_⟩
    rcases Int.lt_or_le mm (F1 16 (F 9 w)) with z | z
    · exact z
    · have e : mm = F1 16 (F 9 w) := by have := hat.2.1; omega
      have h5 := hat.2.2.1
      rw [e, hLn.2.2.1, mq_N] at h5
      omega
  obtain ⟨ln, hln⟩ : ∃ z, z = sI (F1 16) (F 9 w) + mm := ⟨_, rfl⟩
  have hpb := cOk_bd hc (a := F 9 w) (by omega) (by omega)
  have hpm := cOk_mono hc (a := F 9 w + 1) (b := F 3 0) (by omega) (by omega) (Int.le_refl _)
  rw [sI_succ _ hww.2.2.1] at hpm
  have loop : ∀ (n : Nat) (m1 : Int) (s0 : Int → Int), 0 ≤ m1 → PgC (F1 16) (F 3 0) (F 2 0) (sI (F1 16) (F 3 0)) s0 m1 → s0 m1 ≤ ln → sI (F1 16) (F 3 0) - s0 m1 < n → J p l e (jr 5 0 0) s m args below meth c A Q (mP g x AD Θ (F1) A) 0 0 47 [some (.ref x), some (.int (zI (w))), some (.int (zI (sI (F1 16) (F 3 0)))), some (.int (zI (ln))), some (.int (zI (m1))), some (.int (zI (s0 m1)))] [] := by
    intro n
    induction n with
    | zero =>
      intro m1 s0 h1 h2 h2b h3
      have := PgC_bd hh hall.1 h2 m1 h1 (Int.le_refl _)
      omega
    | succ n ih =>
      intro m1 s0 h1 h2 h2b h3
      have hb := PgC_bd hh hall.1 h2 m1 h1 (Int.le_refl _)
      refine J_iload hC dX3_whereOf_47 rfl ?_
      refine J_aload_n hC dX3_whereOf_49 rfl ?_
      refine J_iload hC dX3_whereOf_50 rfl ?_
      refine J_iload_n hC dX3_whereOf_52 rfl ?_
      refine Jm_callVi (n := 2) hC hΘ (m_puts hnt hD (s0 m1) (sI (F1 16) (F 3 0)) hc1 hh1 (by rw [e3]) ⟨by omega, by omega⟩) (lw_V q1106 q1108 qs32 q61 q1109) ⟨rfl, by decide +kernel⟩ ⟨(Nat.le_of_ble_eq_true rfl), (Nat.le_of_ble_eq_true rfl)⟩ rfl rfl rfl rfl (Nat.le_of_ble_eq_true rfl) dX3_whereOf_53 ?_
      intro r1 F9 hr9
      obtain ⟨hpgE, ee9⟩ := hr9
      rw [ee9]
      refine J_iadd hC dX3_whereOf_56 ?_
      refine J_iload_n hC dX3_whereOf_57 rfl ?_
      rw [e3, e2] at hpgE
      obtain ⟨k1, k2, k3⟩ := PgC_step h1 h2 (by omega) hpgE
      have hpr := PgE_prog hh ⟨by omega, by omega⟩ hpgE
      refine J_icmp_gt (tgt := 79) hC (by first | with_reducible assumption | exact zR_mk (by omega) (by omega)) (by first | with_reducible assumption | exact zR_mk (by omega) (by omega)) dX3_whereOf_58 rfl (fun c58 => ?_) (fun c58 => ?_)
      · refine J_bipush hC dX3_whereOf_79 (by decide) ?_
        refine J_iload hC dX3_whereOf_81 rfl ?_
        refine J_imul hC dX3_whereOf_83 ?_
        refine J_iload_n hC dX3_whereOf_84 rfl ?_
        refine J_iadd hC dX3_whereOf_85 ?_
        refine J_iload hC dX3_whereOf_86 rfl ?_
        refine J_isub hC dX3_whereOf_88 ?_
        refine Jm_iret hC hQ  ⟨_, rfl, ?_⟩ dX3_whereOf_89
        refine ⟨hs1, h0, F1 16, b, mm, hcnt, hL, hat, _, m1, h1, k1, ?_, ?_, ?_⟩
        · rw [k3 m1 (Int.le_refl _), ← hln]; exact h2b
        · rw [k2, ← hln]; exact c58
        · rw [k3 m1 (Int.le_refl _), ← hln]
      · refine J_iload hC dX3_whereOf_61 rfl ?_
        refine J_aload_n hC dX3_whereOf_63 rfl ?_
        refine J_iload hC dX3_whereOf_64 rfl ?_
        refine J_iload_n hC dX3_whereOf_66 rfl ?_
        refine Jm_callVi (n := 2) hC hΘ (m_puts hnt hD (s0 m1) (sI (F1 16) (F 3 0)) hc1 hh1 (by rw [e3]) ⟨by omega, by omega⟩) (lw_V q1106 q1108 qs32 q61 q1109) ⟨rfl, by decide +kernel⟩ ⟨(Nat.le_of_ble_eq_true rfl), (Nat.le_of_ble_eq_true rfl)⟩ rfl rfl rfl rfl (Nat.le_of_ble_eq_true rfl) dX3_whereOf_67 ?_
        intro r2 F9 hr9
        obtain ⟨hpgE2, ee9⟩ := hr9
        rw [ee9]
        refine J_iadd hC dX3_whereOf_70 ?_
        rw [e3, e2] at hpgE2
        have er := PgE_uniq hc (fun _ _ _ => rfl) hpgE hpgE2
        have er2 : r2 = r1 := by omega
        subst er2
        refine J_istore hC dX3_whereOf_71 (Nat.le_of_ble_eq_true rfl) ?_
        refine J_iinc hC dX3_whereOf_73 rfl (Nat.le_of_ble_eq_true rfl) ?_
        refine J_goto (tgt := 47) hC dX3_whereOf_76 rfl ?_
        rw [← k2]
        exact ih (m1 + 1) _ (by omega) k1 (by rw [k2]; omega) (by rw [k2]; omega)
  refine J_aload_n hC dX3_whereOf_4 rfl ?_
  refine J_aload_n hC dX3_whereOf_5 rfl ?_
  refine Jm_gets hC 3 (v := F 3 0) e3 rfl q924 rfl dX3_whereOf_6 ?_
  refine Jm_callVi (n := 1) hC hΘ (m_ahead hnt hD (F 3 0) hnp) (lw_V q1102 q1104 qs31 q61 q1105) ⟨rfl, by decide +kernel⟩ ⟨(Nat.le_of_ble_eq_true rfl), (Nat.le_of_ble_eq_true rfl)⟩ rfl rfl rfl rfl (Nat.le_of_ble_eq_true rfl) dX3_whereOf_9 ?_
  intro r F9 hr9
  obtain ⟨er9, ee9⟩ := hr9
  rw [ee9, er9]
  refine J_istore_n (i := 2) hC dX3_whereOf_12 rfl (Nat.le_of_ble_eq_true rfl) ?_
  refine J_aload_n hC dX3_whereOf_13 rfl ?_
  refine J_aload_n hC dX3_whereOf_14 rfl ?_
  refine Jm_get hC 9 (by decide) q930 rfl rfl dX3_whereOf_15 ?_
  refine J_iload_n hC dX3_whereOf_18 rfl ?_
  refine Jm_iald hC 9 (n := 60) (v := F 9 w) e9 rfl (by decide) rfl (by omega) (by omega) dX3_whereOf_19 ?_
  refine Jm_callVi (n := 1) hC hΘ (m_ahead hnt hD (F 9 w) (by omega)) (lw_V q1102 q1104 qs31 q61 q1105) ⟨rfl, by decide +kernel⟩ ⟨(Nat.le_of_ble_eq_true rfl), (Nat.le_of_ble_eq_true rfl)⟩ rfl rfl rfl rfl (Nat.le_of_ble_eq_true rfl) dX3_whereOf_20 ?_
  intro r F9 hr9
  obtain ⟨er9, ee9⟩ := hr9
  rw [ee9, er9]
  refine J_aload_n hC dX3_whereOf_23 rfl ?_
  refine J_aload_n hC dX3_whereOf_24 rfl ?_
  refine Jm_get hC 9 (by decide) q930 rfl rfl dX3_whereOf_25 ?_
  refine J_iload_n hC dX3_whereOf_28 rfl ?_
  refine Jm_iald hC 9 (n := 60) (v := F 9 w) e9 rfl (by decide) rfl (by omega) (by omega) dX3_whereOf_29 ?_
  refine J_aload_n hC dX3_whereOf_30 rfl ?_
  refine Jm_get hC 10 (by decide) q931 rfl rfl dX3_whereOf_31 ?_
  refine J_iload_n hC dX3_whereOf_34 rfl ?_
  refine Jm_iald hC 10 (n := 60) (v := F 10 w) e10 rfl (by decide) rfl (by omega) (by omega) dX3_whereOf_35 ?_
  refine Jm_callVi (n := 2) hC hΘ (m_endsIn hnt hD (F 9 w) (F 10 w) (by omega) (by omega) (fun k z1 z2 => by rw [e6]; have := mI_word hI hww.2.2.1 hp6 z1 (by omega); omega) hs1.2) (lw_V q1050 q1052 qs25 q61 q1053) ⟨rfl, by decide +kernel⟩ ⟨(Nat.le_of_ble_eq_true rfl), (Nat.le_of_ble_eq_true rfl)⟩ rfl rfl rfl rfl (Nat.le_of_ble_eq_true rfl) dX3_whereOf_36 ?_
  intro r F9 hr9
  obtain ⟨er9, ee9⟩ := hr9
  rw [ee9, er9, ← hmm]
  refine J_iadd hC dX3_whereOf_39 ?_
  refine J_istore_n (i := 3) hC dX3_whereOf_40 rfl (Nat.le_of_ble_eq_true rfl) ?_
  rw [← hln]
  refine J_iconst hC dX3_whereOf_41 ?_
  refine J_istore hC dX3_whereOf_42 (Nat.le_of_ble_eq_true rfl) ?_
  refine J_iconst hC dX3_whereOf_44 ?_
  refine J_istore hC dX3_whereOf_45 (Nat.le_of_ble_eq_true rfl) ?_
  exact loop (sI (F1 16) (F 3 0) + 1).toNat 0 (fun _ => 0) (Int.le_refl _) PgC_0 (by omega) (by omega)
theorem m_where {g : jG} {l : Launch} {x : Nat} {AD : Nat → Nat} {F : mF} (hnt : l.stackTraces = false) (hD : mD x AD) (w : Int) (hI : mI F) (hw : zR w) : mMi g l x AD yX3_where (ws_ yX3_where cX3_where 2 (some .int)) (jr 6 0 0) [.ref x, .int (zI (w))] F (fun r F' => scr F F' ∧ ((F' 0 0 = 1 ∧ ¬ (0 ≤ w ∧ w < F 7 0)) ∨ (F' 0 0 = 0 ∧ (0 ≤ w ∧ w < F 7 0) ∧ WhOf F w r))) := by
  refine mM_of (L0 := [some (.ref x), some (.int (zI (w)))]) hnt (by decide +kernel) rfl (Nat.le_of_ble_eq_true rfl) rfl rfl ?_
  intro Θ hΘ p e s m args below meth c A Q hC hQ
  have hnw := mI_nw hI
  refine J_aload_n hC dX3_where_0 rfl ?_
  refine J_aload_n hC dX3_where_1 rfl ?_
  refine J_iload_n hC dX3_where_2 rfl ?_
  refine Jm_callVi (n := 1) hC hΘ (m_isWord hnt hD w hw hnw) (lw_V q1013 q1015 qs18 q61 q1016) ⟨rfl, by decide +kernel⟩ ⟨(Nat.le_of_ble_eq_true rfl), (Nat.le_of_ble_eq_true rfl)⟩ rfl rfl rfl rfl (Nat.le_of_ble_eq_true rfl) dX3_where_3 ?_
  intro r F9 hr9
  obtain ⟨hr, e9⟩ := hr9
  rw [e9]
  refine J_if_eq (tgt := 13) hC (by first | with_reducible assumption | exact zR_mk (by omega) (by omega)) dX3_where_6 rfl (fun c6 => ?_) (fun c6 => ?_)
  · refine J_iconst hC dX3_where_13 ?_
    refine Jm_callVi (n := 1) hC hΘ (m_holds hnt hD 1 (zR_mk (by omega) (by omega))) (lw_V q994 q996 qs16 q61 q997) ⟨rfl, by decide +kernel⟩ ⟨(Nat.le_of_ble_eq_true rfl), (Nat.le_of_ble_eq_true rfl)⟩ rfl rfl rfl rfl (Nat.le_of_ble_eq_true rfl) dX3_where_14 ?_
    intro r2 F9 hr9
    obtain ⟨hr2, e9⟩ := hr9
    rw [e9]
    refine J_if_eq (tgt := 28) hC (by first | with_reducible assumption | exact zR_mk (by omega) (by omega)) dX3_where_17 rfl (fun c17 => ?_) (fun c17 => ?_)
    · refine J_iconst hC dX3_where_28 ?_
      refine Jm_iret hC hQ  ⟨_, rfl, ?_⟩ dX3_where_29
      exact ⟨scr_th 1 (mI_B hI), Or.inl ⟨upF_self _ _ _ _, by omega⟩⟩
    · omega
  · refine J_iconst hC dX3_where_9 ?_
    refine J_goto (tgt := 14) hC dX3_where_10 rfl ?_
    refine Jm_callVi (n := 1) hC hΘ (m_holds hnt hD 0 (zR_mk (by omega) (by omega))) (lw_V q994 q996 qs16 q61 q997) ⟨rfl, by decide +kernel⟩ ⟨(Nat.le_of_ble_eq_true rfl), (Nat.le_of_ble_eq_true rfl)⟩ rfl rfl rfl rfl (Nat.le_of_ble_eq_true rfl) dX3_where_14 ?_
    intro r2 F9 hr9
    obtain ⟨hr2, e9⟩ := hr9
    rw [e9]
    have hs := scr_th 0 (mI_B hI)
    refine J_if_eq (tgt := 28) hC (by first | with_reducible assumption | exact zR_mk (by omega) (by omega)) dX3_where_17 rfl (fun c17 => ?_) (fun c17 => ?_)
    · omega
    · refine J_aload_n hC dX3_where_20 rfl ?_
      refine J_iload_n hC dX3_where_21 rfl ?_
      refine Jm_callVi (n := 1) hC hΘ (m_whereOf hnt hD w (scr_mI hs hI) (show 0 ≤ w ∧ w < F 7 0 by omega)) (lw_V q1130 q1132 qs36 q61 q1133) ⟨rfl, by decide +kernel⟩ ⟨(Nat.le_of_ble_eq_true rfl), (Nat.le_of_ble_eq_true rfl)⟩ rfl rfl rfl rfl (Nat.le_of_ble_eq_true rfl) dX3_where_22 ?_
      intro r3 F9 hr9
      obtain ⟨h1, h2, c, b, m, h3, h4, h5, h6⟩ := hr9
      refine J_goto (tgt := 29) hC dX3_where_25 rfl ?_
      refine Jm_iret hC hQ  ⟨_, rfl, ?_⟩ dX3_where_29
      exact ⟨scr_tr hs h1, Or.inr ⟨by rw [h2]; exact upF_self _ _ _ _, by omega, c, b, m, fun p p1 p2 => by obtain ⟨b, hb⟩ := h3 p p1 p2; exact ⟨b, (LinesOf_scr hs.1).mp hb⟩, (LinesOf_scr hs.1).mp h4, h5, h6⟩⟩
