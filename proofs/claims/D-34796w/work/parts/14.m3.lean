/-! THE MODEL: breaks, endsIn -/
set_option maxRecDepth 100000
/-- all but least and next is as it was -/
def eq2 (F F' : mF) : Prop := ∀ k, k ≠ 14 → k ≠ 15 → F' k = F k
theorem eq2_sEq {F F' : mF} (h : eq2 F F') : sEq F F' := fun k _ _ h3 h4 _ => h k h3 h4
theorem m_breaks {g : jG} {l : Launch} {x : Nat} {AD : Nat → Nat} {F : mF} (hnt : l.stackTraces = false) (hD : mD x AD) (a : Int) (hp : mOk F a) : mMv g l x AD yX3_breaks (ws_ yX3_breaks cX3_breaks 5 none) (jr 2 0 0) [.ref x, .int (zI (a))] F (fun F' => eq2 F F' ∧ best (mq F a) (F' 14) (F' 15)) := by
  refine mM_of (L0 := [some (.ref x), some (.int (zI (a))), none, none, none]) hnt (by decide +kernel) rfl (Nat.le_of_ble_eq_true rfl) rfl rfl ?_
  intro Θ hΘ p e s m args below meth c A Q hC hQ
  have hq := mOk_p hp
  have hp0 := hp
  obtain ⟨hp1, hp2, hp3, hp4, hp5⟩ := hp
  have hN : pN (mq F a) = F 5 a := rfl
  have loop : ∀ (n : Nat) (k : Int) (F1 : mF), -1 ≤ k → k < F 5 a → k + 1 < n → eq2 F F1 → F1 14 (16 * F 5 a) = 0 → (∀ t, isSp (mq F a) t → 16 * (k + 1) ≤ t → t < 16 * F 5 a → bestAt (mq F a) (F1 14) (F1 15) t) → J p l e (jr 2 0 0) s m args below meth c A Q (mP g x AD Θ (F1) A) 0 0 24 [some (.ref x), some (.int (zI (a))), some (.int (zI (k))), none, none] [] := by
    intro n
    induction n with
    | zero => intro k F1 h1 h2 h3; omega
    | succ n ih =>
      intro k F1 h1 h2 h3 he h0 hb
      refine J_iload_n hC dX3_breaks_24 rfl ?_
      refine J_if_lt (tgt := 90) hC (by first | with_reducible assumption | exact zR_mk (by omega) (by omega)) dX3_breaks_25 rfl (fun c25 => ?_) (fun c25 => ?_)
      · refine Jm_vret hC hQ ⟨rfl, ?_⟩ dX3_breaks_90
        refine ⟨he, ?_, fun t ht1 ht2 => hb t ht1 ?_ ht2⟩
        · exact h0
        · have := (isSp_le hq ht1).1
          omega
      · have hk3 := hp3 k (by omega) (by omega)
        obtain ⟨wd, hwd⟩ : ∃ wd, wd = F 6 (60 * a + k) := ⟨_, rfl⟩
        obtain ⟨Lk, hLk⟩ : ∃ z, z = F 8 (F 6 (60 * a + k)) := ⟨_, rfl⟩
        have hLq : pL (mq F a) k = Lk := by rw [hLk]; rfl
        rw [← hLk] at hk3
        rw [← hwd] at hk3 hLk
        have inner : ∀ (n2 : Nat) (pl : Int) (F1 : mF), -1 ≤ pl → pl < Lk → pl + 1 < n2 → eq2 F F1 → F1 14 (16 * F 5 a) = 0 → (∀ t, isSp (mq F a) t → 16 * k + pl + 1 ≤ t → t < 16 * F 5 a → bestAt (mq F a) (F1 14) (F1 15) t) → J p l e (jr 2 0 0) s m args below meth c A Q (mP g x AD Θ (F1) A) 0 0 45 [some (.ref x), some (.int (zI (a))), some (.int (zI (k))), some (.int (zI (wd))), some (.int (zI (pl)))] [] := by
          intro n2
          induction n2 with
          | zero => intro pl F1 g1 g2 g3; omega
          | succ n2 ih2 =>
            intro pl F1 g1 g2 g3 ge g0 gb
            have j78 : ∀ F1 : mF, eq2 F F1 → F1 14 (16 * F 5 a) = 0 → 0 ≤ pl → (∀ t, isSp (mq F a) t → 16 * k + pl ≤ t → t < 16 * F 5 a → bestAt (mq F a) (F1 14) (F1 15) t) → J p l e (jr 2 0 0) s m args below meth c A Q (mP g x AD Θ (F1) A) 0 0 78 [some (.ref x), some (.int (zI (a))), some (.int (zI (k))), some (.int (zI (wd))), some (.int (zI (pl)))] [] := by
              intro F1 ge g0 gp gb
              refine J_iinc hC dX3_breaks_78 rfl (Nat.le_of_ble_eq_true rfl) ?_
              refine J_goto (tgt := 45) hC dX3_breaks_81 rfl ?_
              exact ih2 (pl + -1) F1 (by omega) (by omega) (by omega) ge g0 (fun t t1 t2 t3 => gb t t1 (by omega) t3)
            refine J_iload hC dX3_breaks_45 rfl ?_
            refine J_if_lt (tgt := 84) hC (by first | with_reducible assumption | exact zR_mk (by omega) (by omega)) dX3_breaks_47 rfl (fun c47 => ?_) (fun c47 => ?_)
            · refine J_iinc hC dX3_breaks_84 rfl (Nat.le_of_ble_eq_true rfl) ?_
              refine J_goto (tgt := 24) hC dX3_breaks_87 rfl ?_
              refine J_forget (L' := [some (.ref x), some (.int (zI (a))), some (.int (zI (k + -1))), none, none]) (by simp [jle]) ?_
              exact ih (k + -1) F1 (by omega) (by omega) (by omega) ge g0 (fun t t1 t2 t3 => gb t t1 (by omega) t3)
            · have hSq : pS (mq F a) k pl = F 11 (16 * wd + pl) := by rw [hwd]; rfl
              have j70 : isSp (mq F a) (16 * k + pl) → J p l e (jr 2 0 0) s m args below meth c A Q (mP g x AD Θ (F1) A) 0 0 70 [some (.ref x), some (.int (zI (a))), some (.int (zI (k))), some (.int (zI (wd))), some (.int (zI (pl)))] [] := by
                intro hsp
                have hp' : mOk F1 a := sEq_mOk (eq2_sEq ge) hp0
                have hmq : mq F1 a = mq F a := sEq_mq (eq2_sEq ge) a
                have e5 : F1 5 a = F 5 a := by rw [ge 5 (by decide) (by decide)]
                have hbd := best_bd hq (ls := F1 14) (nx := F1 15) g0 (16 * k + pl + 1) (fun t t1 t2 t3 => gb t t1 t2 t3)
                refine J_aload_n hC dX3_breaks_70 rfl ?_
                refine J_iload_n hC dX3_breaks_71 rfl ?_
                refine J_iload_n hC dX3_breaks_72 rfl ?_
                refine J_iload hC dX3_breaks_73 rfl ?_
                refine Jm_callVv (n := 3) hC hΘ (m_finds hnt hD a k pl hp' ⟨by omega, by omega⟩ ⟨by omega, by rw [ge 8 (by decide) (by decide), ge 6 (by decide) (by decide), ← hwd, ← hLk]; omega⟩ (by rw [hmq]; exact hsp) (fun u u1 u2 => by rw [hmq] at u1; rw [e5]; exact hbd u u1 (by omega))) (lw_V q1037 q1039 qs22 q61 q1040) ⟨rfl, by decide +kernel⟩ ⟨(Nat.le_of_ble_eq_true rfl), (Nat.le_of_ble_eq_true rfl)⟩ rfl rfl rfl rfl (Nat.le_of_ble_eq_true rfl) dX3_breaks_75 ?_
                intro F9 hr9
                obtain ⟨a1, b1, e9, hba⟩ := hr9
                rw [e9]
                rw [hmq] at hba
                refine j78 (fF F1 (16 * k + pl) a1 b1) (fun k' z1 z2 => (fF_k F1 _ _ _ z1 z2).trans (ge k' z1 z2)) (by rw [fF_ne _ _ _ (by omega)]; exact g0) (by omega) (fun t t1 t2 t3 => ?_)
                rw [fF_14, fF_15]
                by_cases he : t = 16 * k + pl
                · rw [he]; exact hba
                · exact bestAt_congr (fun u hu => upI_ne _ (by omega)) (upI_ne _ (by omega)) (gb t t1 (by omega) t3)
              have hsc := hp5 (16 * wd + pl) (by omega) (by omega)
              refine J_iload hC dX3_breaks_50 rfl ?_
              refine J_if_eq (tgt := 70) hC (by first | with_reducible assumption | exact zR_mk (by omega) (by omega)) dX3_breaks_52 rfl (fun c52 => ?_) (fun c52 => ?_)
              · have e : pl = 0 := c52
                subst e
                refine j70 ?_
                rw [Int.add_zero]
                exact sp_word (by omega) (by rw [hN]; omega)
              · refine J_aload_n hC dX3_breaks_55 rfl ?_
                refine Jm_get hC 11 (by decide) q932 rfl rfl dX3_breaks_56 ?_
                refine J_bipush hC dX3_breaks_59 (by decide) ?_
                refine J_iload_n hC dX3_breaks_61 rfl ?_
                refine J_imul hC dX3_breaks_62 ?_
                refine J_iload hC dX3_breaks_63 rfl ?_
                refine J_iadd hC dX3_breaks_65 ?_
                refine Jm_iald hC 11 (n := 960) (v := F 11 (16 * wd + pl)) (by rw [ge 11 (by decide) (by decide)]) rfl (by decide) rfl (by omega) (by omega) dX3_breaks_66 ?_
                refine J_if_le (tgt := 78) hC (by first | with_reducible assumption | exact zR_mk (by omega) (by omega)) dX3_breaks_67 rfl (fun c67 => ?_) (fun c67 => ?_)
                · refine j78 F1 ge g0 (by omega) (fun t t1 t2 t3 => ?_)
                  by_cases he : t = 16 * k + pl
                  · rw [he] at t1
                    exact absurd t1 (nsp_in (by omega) (by rw [hN]; omega) (by omega) (by omega) (by rw [hSq]; omega))
                  · exact gb t t1 (by omega) t3
                · exact j70 (sp_in (by omega) (by rw [hN]; omega) (by omega) (by rw [hLq]; omega) (by omega) (by rw [hSq]; omega))
        refine J_aload_n hC dX3_breaks_28 rfl ?_
        refine J_iload_n hC dX3_breaks_29 rfl ?_
        refine J_iload_n hC dX3_breaks_30 rfl ?_
        refine Jm_callVi (n := 2) hC hΘ (m_word hnt hD a k (by omega) (by omega)) (lw_V q1029 q1031 qs20 q61 q1032) ⟨rfl, by decide +kernel⟩ ⟨(Nat.le_of_ble_eq_true rfl), (Nat.le_of_ble_eq_true rfl)⟩ rfl rfl rfl rfl (Nat.le_of_ble_eq_true rfl) dX3_breaks_31 ?_
        intro wd9 F9 hr9
        obtain ⟨hwd9, e9⟩ := hr9
        have hwd9 : wd9 = wd := by rw [hwd, ← he 6 (by decide) (by decide)]; exact hwd9
        rw [hwd9, e9]
        refine J_istore_n (i := 3) hC dX3_breaks_34 rfl (Nat.le_of_ble_eq_true rfl) ?_
        refine J_aload_n hC dX3_breaks_35 rfl ?_
        refine Jm_get hC 8 (by decide) q929 rfl rfl dX3_breaks_36 ?_
        refine J_iload_n hC dX3_breaks_39 rfl ?_
        refine Jm_iald hC 8 (n := 60) (v := Lk) (by rw [he 8 (by decide) (by decide)]; exact hLk.symm) rfl (by decide) rfl (by omega) (by omega) dX3_breaks_40 ?_
        refine J_iconst hC dX3_breaks_41 ?_
        refine J_isub hC dX3_breaks_42 ?_
        refine J_istore hC dX3_breaks_43 (Nat.le_of_ble_eq_true rfl) ?_
        exact inner (Lk + 1).toNat (Lk - 1) F1 (by omega) (by omega) (by omega) he h0 (fun t t1 t2 t3 => by
          by_cases hz : 16 * (k + 1) ≤ t
          · exact hb t t1 hz t3
          · exact absurd t1 (nsp_rest (k := k) (by omega) (by rw [hN]; omega) (by rw [hLq]; omega) (by rw [hLq]; omega) (by omega)))
  refine J_aload_n hC dX3_breaks_0 rfl ?_
  refine Jm_get hC 14 (by decide) q935 rfl rfl dX3_breaks_1 ?_
  refine J_bipush hC dX3_breaks_4 (by decide) ?_
  refine J_aload_n hC dX3_breaks_6 rfl ?_
  refine Jm_get hC 5 (by decide) q926 rfl rfl dX3_breaks_7 ?_
  refine J_iload_n hC dX3_breaks_10 rfl ?_
  refine Jm_iald hC 5 (n := 6) rfl rfl (by decide) rfl (by omega) (by omega) dX3_breaks_11 ?_
  refine J_imul hC dX3_breaks_12 ?_
  refine J_iconst hC dX3_breaks_13 ?_
  refine Jm_iast hC hD hΘ 14 (n := 976) rfl (by decide) rfl (by omega) (by omega) dX3_breaks_14 ?_
  refine J_aload_n hC dX3_breaks_15 rfl ?_
  refine Jm_get hC 5 (by decide) q926 rfl rfl dX3_breaks_16 ?_
  refine J_iload_n hC dX3_breaks_19 rfl ?_
  refine Jm_iald hC 5 (n := 6) rfl rfl (by decide) rfl (by omega) (by omega) dX3_breaks_20 ?_
  refine J_iconst hC dX3_breaks_21 ?_
  refine J_isub hC dX3_breaks_22 ?_
  refine J_istore_n (i := 2) hC dX3_breaks_23 rfl (Nat.le_of_ble_eq_true rfl) ?_
  refine loop (F 5 a + 1).toNat (F 5 a - 1) _ (by omega) (by omega) (by omega) (fun k z1 z2 => upF_k F _ _ z1) (upF_self F 14 _ 0) (fun t t1 t2 t3 => by omega)
/-- how many marks in a word's row, in the first words -/
def mE (F : mF) (p k : Int) : Int := sI (fun j => F 12 (16 * F 6 (60 * p + k) + j)) 16
def mB (F : mF) : Prop := ∀ j, F 12 j = 0 ∨ F 12 j = 1
theorem m_endsIn {g : jG} {l : Launch} {x : Nat} {AD : Nat → Nat} {F : mF} (hnt : l.stackTraces = false) (hD : mD x AD) (a b : Int) (ha : 0 ≤ a ∧ a < 6) (hb : 0 ≤ b ∧ b ≤ 60) (hw : ∀ k, 0 ≤ k → k < b → 0 ≤ F 6 (60 * a + k) ∧ F 6 (60 * a + k) < 60) (hB : mB F) : mMi g l x AD yX3_endsIn (ws_ yX3_endsIn cX3_endsIn 6 (some .int)) (jr 1 0 0) [.ref x, .int (zI (a)), .int (zI (b))] F (fun r F' => r = sI (mE F a) b ∧ F' = F) := by
  refine mM_of (L0 := [some (.ref x), some (.int (zI (a))), some (.int (zI (b))), none, none, none]) hnt (by decide +kernel) rfl (Nat.le_of_ble_eq_true rfl) rfl rfl ?_
  intro Θ hΘ p e s m args below meth c A Q hC hQ
  have loop : ∀ (n : Nat) (k s0 : Int), 0 ≤ k → k ≤ b → b - k < n → s0 = sI (mE F a) k → J p l e (jr 1 0 0) s m args below meth c A Q (mP g x AD Θ (F) A) 0 0 5 [some (.ref x), some (.int (zI (a))), some (.int (zI (b))), some (.int (zI (s0))), some (.int (zI (k))), none] [] := by
    intro n
    induction n with
    | zero => intro k s0 h1 h2 h3; omega
    | succ n ih =>
      intro k s0 h1 h2 h3 hs
      refine J_iload hC dX3_endsIn_5 rfl ?_
      refine J_iload_n hC dX3_endsIn_7 rfl ?_
      refine J_icmp_ge (tgt := 62) hC (by first | with_reducible assumption | exact zR_mk (by omega) (by omega)) (by first | with_reducible assumption | exact zR_mk (by omega) (by omega)) dX3_endsIn_8 rfl (fun c8 => ?_) (fun c8 => ?_)
      · refine J_iload_n hC dX3_endsIn_62 rfl ?_
        refine Jm_iret hC hQ  ⟨_, rfl, ?_⟩ dX3_endsIn_63
        exact ⟨by rw [hs, show k = b by omega], rfl⟩
      · have hwk := hw k h1 (by omega)
        have inner : ∀ (n2 : Nat) (j s1 : Int), 0 ≤ j → j ≤ 16 → 16 - j < n2 → s1 = sI (mE F a) k + sI (fun j => F 12 (16 * F 6 (60 * a + k) + j)) j → J p l e (jr 1 0 0) s m args below meth c A Q (mP g x AD Θ (F) A) 0 0 14 [some (.ref x), some (.int (zI (a))), some (.int (zI (b))), some (.int (zI (s1))), some (.int (zI (k))), some (.int (zI (j)))] [] := by
          intro n2
          induction n2 with
          | zero => intro j s1 g1 g2 g3; omega
          | succ n2 ih2 =>
            intro j s1 g1 g2 g3 gs
            have hbj := hB (16 * F 6 (60 * a + k) + j)
            refine J_iload hC dX3_endsIn_14 rfl ?_
            refine J_bipush hC dX3_endsIn_16 (by decide) ?_
            refine J_icmp_ge (tgt := 56) hC (by first | with_reducible assumption | exact zR_mk (by omega) (by omega)) (by first | with_reducible assumption | exact zR_mk (by omega) (by omega)) dX3_endsIn_18 rfl (fun c18 => ?_) (fun c18 => ?_)
            · refine J_iinc hC dX3_endsIn_56 rfl (Nat.le_of_ble_eq_true rfl) ?_
              refine J_goto (tgt := 5) hC dX3_endsIn_59 rfl ?_
              refine J_forget (L' := [some (.ref x), some (.int (zI (a))), some (.int (zI (b))), some (.int (zI (s1))), some (.int (zI (k + 1))), none]) (by simp [jle]) ?_
              refine ih (k + 1) s1 (by omega) (by omega) (by omega) ?_
              rw [sI_succ _ h1, gs, show j = 16 by omega]
              rfl
            · refine J_iload_n hC dX3_endsIn_21 rfl ?_
              refine J_aload_n hC dX3_endsIn_22 rfl ?_
              refine Jm_get hC 12 (by decide) q933 rfl rfl dX3_endsIn_23 ?_
              refine J_bipush hC dX3_endsIn_26 (by decide) ?_
              refine J_aload_n hC dX3_endsIn_28 rfl ?_
              refine J_iload_n hC dX3_endsIn_29 rfl ?_
              refine J_iload hC dX3_endsIn_30 rfl ?_
              refine Jm_callVi (n := 2) hC hΘ (m_word hnt hD a k (by omega) (by omega)) (lw_V q1029 q1031 qs20 q61 q1032) ⟨rfl, by decide +kernel⟩ ⟨(Nat.le_of_ble_eq_true rfl), (Nat.le_of_ble_eq_true rfl)⟩ rfl rfl rfl rfl (Nat.le_of_ble_eq_true rfl) dX3_endsIn_32 ?_
              intro r F9 hr9
              obtain ⟨er9, e9⟩ := hr9
              rw [e9, er9]
              refine J_imul hC dX3_endsIn_35 ?_
              refine J_iload hC dX3_endsIn_36 rfl ?_
              refine J_iadd hC dX3_endsIn_38 ?_
              refine Jm_zald hC 12 (n := 960) rfl rfl (by decide) rfl (by omega) (by omega) dX3_endsIn_39 ?_
              refine J_if_eq (tgt := 47) hC (by first | with_reducible assumption | exact zR_mk (by omega) (by omega)) dX3_endsIn_40 rfl (fun c40 => ?_) (fun c40 => ?_)
              · refine J_iconst hC dX3_endsIn_47 ?_
                refine J_iadd hC dX3_endsIn_48 ?_
                refine J_istore_n (i := 3) hC dX3_endsIn_49 rfl (Nat.le_of_ble_eq_true rfl) ?_
                refine J_iinc hC dX3_endsIn_50 rfl (Nat.le_of_ble_eq_true rfl) ?_
                refine J_goto (tgt := 14) hC dX3_endsIn_53 rfl ?_
                refine ih2 (j + 1) (s1 + 0) (by omega) (by omega) (by omega) ?_
                rw [gs, sI_succ _ g1]
                omega
              · refine J_iconst hC dX3_endsIn_43 ?_
                refine J_goto (tgt := 48) hC dX3_endsIn_44 rfl ?_
                refine J_iadd hC dX3_endsIn_48 ?_
                refine J_istore_n (i := 3) hC dX3_endsIn_49 rfl (Nat.le_of_ble_eq_true rfl) ?_
                refine J_iinc hC dX3_endsIn_50 rfl (Nat.le_of_ble_eq_true rfl) ?_
                refine J_goto (tgt := 14) hC dX3_endsIn_53 rfl ?_
                refine ih2 (j + 1) (s1 + 1) (by omega) (by omega) (by omega) ?_
                rw [gs, sI_succ _ g1]
                omega
        refine J_iconst hC dX3_endsIn_11 ?_
        refine J_istore hC dX3_endsIn_12 (Nat.le_of_ble_eq_true rfl) ?_
        exact inner 17 0 s0 (by omega) (by omega) (by omega) (by rw [hs, sI_0]; omega)
  refine J_iconst hC dX3_endsIn_0 ?_
  refine J_istore_n (i := 3) hC dX3_endsIn_1 rfl (Nat.le_of_ble_eq_true rfl) ?_
  refine J_iconst hC dX3_endsIn_2 ?_
  refine J_istore hC dX3_endsIn_3 (Nat.le_of_ble_eq_true rfl) ?_
  exact loop (b + 1).toNat 0 0 (by omega) (by omega) (by omega) (sI_0 _).symm
