/-! THE MODEL: freeze, lineEnd, length -/
set_option maxRecDepth 100000
/-- what freezing does: the paragraph is frozen, its marks are kept; else scratch alone -/
def frz (F F' : mF) (a : Int) (b : Int → Int) (n : Int) : Prop := (∀ k, k ≠ 0 → k ≠ 4 → k ≠ 12 → k ≠ 13 → k ≠ 14 → k ≠ 15 → k ≠ 16 → F' k = F k) ∧ F' 4 = upI (F 4) a 1 ∧ mB F' ∧ Mk (mq F a) (mRow F' 13 a) b n ∧ (∀ j, mOut F a j → F' 13 j = F 13 j) ∧ ∀ j, F' 13 j = 0 ∨ F' 13 j = 1
theorem frz_row {F F' : mF} {a : Int} {b : Int → Int} {n : Int} (hI : mI F) (ha : 0 ≤ a ∧ a < 6) (h : frz F F' a b n) {p : Int} (hp : 0 ≤ p ∧ p < 6) (hne : p ≠ a) {k j : Int} (k1 : 0 ≤ k) (k2 : k < F 5 p) (j1 : 0 ≤ j) (j2 : j < 16) : mRow F' 13 p k j = mRow F 13 p k j := by
  unfold mRow
  rw [h.1 6 (by decide) (by decide) (by decide) (by decide) (by decide) (by decide) (by decide)]
  refine h.2.2.2.2.1 _ (fun k' y1 y2 y3 => ?_)
  have w1 := mI_word hI hp.1 hp.2 k1 k2
  have w2 := mI_word hI ha.1 ha.2 y1 y2
  have e : F 6 (60 * p + k) = F 6 (60 * a + k') := by omega
  rw [e] at w1
  omega
theorem frz_mq {F F' : mF} {a : Int} {b : Int → Int} {n : Int} (h : frz F F' a b n) (p : Int) : mq F' p = mq F p := by
  unfold mq
  rw [h.1 5 (by decide) (by decide) (by decide) (by decide) (by decide) (by decide) (by decide), h.1 8 (by decide) (by decide) (by decide) (by decide) (by decide) (by decide) (by decide), h.1 6 (by decide) (by decide) (by decide) (by decide) (by decide) (by decide) (by decide), h.1 11 (by decide) (by decide) (by decide) (by decide) (by decide) (by decide) (by decide), h.1 1 (by decide) (by decide) (by decide) (by decide) (by decide) (by decide) (by decide)]
theorem Mk_congr {q : PQ} {E E' : Int → Int → Int} {b : Int → Int} {n : Int} (h : ∀ k j, 0 ≤ k → k < pN q → 0 ≤ j → j < 16 → E' k j = E k j) (hM : Mk q E b n) : Mk q E' b n := fun k j a c d e => by
  rw [h k j a c d e]
  exact hM k j a c d e
theorem Ln_congr {q : PQ} {b b' : Int → Int} {n : Int} (h : ∀ i, 0 ≤ i → i ≤ n → b i = b' i) (hL : Ln q b n) : Ln q b' n := ⟨hL.1, by rw [← h 0 (Int.le_refl _) hL.1]; exact hL.2.1, by rw [← h n hL.1 (Int.le_refl _)]; exact hL.2.2.1, fun i a c => by
  rw [← h i a (by omega), ← h (i + 1) (by omega) (by omega)]
  exact hL.2.2.2 i a c⟩
theorem Mk_congrb {q : PQ} {E : Int → Int → Int} {b b' : Int → Int} {n : Int} (h : ∀ i, 0 ≤ i → i ≤ n → b i = b' i) (hM : Mk q E b n) : Mk q E b' n := fun k j a c d e => by
  rcases hM k j a c d e with ⟨y1, i, y2, y3, y4⟩ | ⟨y1, y2⟩
  · exact Or.inl ⟨y1, i, y2, y3, by rw [← h (i + 1) (by omega) (by omega)]; exact y4⟩
  · exact Or.inr ⟨y1, fun i z1 z2 => by rw [← h (i + 1) (by omega) (by omega)]; exact y2 i z1 z2⟩
/-- freezing changes no lines -/
theorem frz_lines {F F' : mF} {a : Int} {b0 : Int → Int} {n0 : Int} (hI : mI F) (ha : 0 ≤ a ∧ a < 6) (h : frz F F' a b0 n0) (hL0 : LinesOf F a b0 n0) {p : Int} (hp : 0 ≤ p ∧ p < 6) {b : Int → Int} {n : Int} (hL : LinesOf F p b n) : LinesOf F' p b n := by
  by_cases hne : p = a
  · subst hne
    obtain ⟨e, hb⟩ := LinesOf_uniq (mI_pOk hI hp.1 hp.2) hL0 hL
    subst e
    have hLn := LinesOf_Ln (mI_pOk hI hp.1 hp.2) hL
    refine Or.inl ⟨by rw [h.2.1, upI_self], by rw [frz_mq h]; exact hLn, by rw [frz_mq h]; exact Mk_congrb hb h.2.2.2.1⟩
  · unfold LinesOf
    rw [frz_mq h, h.2.1, upI_ne _ hne]
    rcases hL with ⟨h1, h2, h3⟩ | ⟨h1, h2⟩
    · exact Or.inl ⟨h1, h2, Mk_congr (fun k j z1 z2 z3 z4 => frz_row hI ha h hp hne z1 z2 z3 z4) h3⟩
    · exact Or.inr ⟨h1, h2⟩
theorem frz_mI {F F' : mF} {a : Int} {b0 : Int → Int} {n0 : Int} (hI : mI F) (ha : 0 ≤ a ∧ a < F 3 0) (h : frz F F' a b0 n0) (hL0 : LinesOf F a b0 n0) : mI F' := by
  have hnp := mI_np hI
  have ha6 : 0 ≤ a ∧ a < 6 := by omega
  have e := fun (k : Nat) (z : k = 1 ∨ k = 2 ∨ k = 3 ∨ k = 5 ∨ k = 6 ∨ k = 7 ∨ k = 8 ∨ k = 9 ∨ k = 10 ∨ k = 11 ∨ k = 17 ∨ k = 18 ∨ k = 19 ∨ k = 20) => h.1 k (by omega) (by omega) (by omega) (by omega) (by omega) (by omega) (by omega)
  have hkept : ∀ p, 0 ≤ p → p < 6 → mKept F' p := fun p p1 p2 => by
    obtain ⟨k1, k2, k3⟩ := mI_kept hI p1 p2
    unfold mKept
    rw [frz_mq h p, h.2.1]
    by_cases hne : p = a
    · subst hne
      rw [upI_self]
      exact ⟨Or.inr rfl, fun _ => ⟨b0, n0, LinesOf_Ln (mI_pOk hI p1 p2) hL0, h.2.2.2.1⟩, h.2.2.2.2.2⟩
    · rw [upI_ne _ hne]
      refine ⟨k1, fun z => ?_, h.2.2.2.2.2⟩
      obtain ⟨b, n, y1, y2⟩ := k2 z
      exact ⟨b, n, y1, Mk_congr (fun k j z1 z2 z3 z4 => frz_row hI ha6 h ⟨p1, p2⟩ hne z1 z2 z3 z4) y2⟩
  unfold mI
  rw [e 1 (by decide), e 2 (by decide), e 3 (by decide), h.2.1, e 5 (by decide), e 6 (by decide), e 7 (by decide), e 8 (by decide), e 9 (by decide), e 10 (by decide), e 11 (by decide), e 17 (by decide), e 18 (by decide), e 19 (by decide), e 20 (by decide)]
  refine ⟨hI.1, hI.2.1, hI.2.2.1, hI.2.2.2.1, hI.2.2.2.2.1, ⟨hI.2.2.2.2.2.1.1, hI.2.2.2.2.2.1.2.1, fun p z1 z2 => ?_⟩, hI.2.2.2.2.2.2.1, hI.2.2.2.2.2.2.2.1, hI.2.2.2.2.2.2.2.2.1, h.2.2.1, hkept, hI.2.2.2.2.2.2.2.2.2.2.2⟩
  rw [upI_ne _ (by omega)]
  exact hI.2.2.2.2.2.1.2.2 p z1 z2
set_option maxHeartbeats 4000000 in
theorem m_freeze {g : jG} {l : Launch} {x : Nat} {AD : Nat → Nat} {F : mF} (hnt : l.stackTraces = false) (hD : mD x AD) (a : Int) (hI : mI F) (ha : zR a) : mMi g l x AD yX3_freeze (ws_ yX3_freeze cX3_freeze 6 (some .int)) (jr 4 0 0) [.ref x, .int (zI (a))] F (fun r F' => (F' = upF F 0 0 1 ∧ ¬ (0 ≤ a ∧ a < F 3 0)) ∨ (F' = upF F 0 0 2 ∧ (0 ≤ a ∧ a < F 3 0) ∧ F 4 a = 1) ∨ (F' 0 0 = 0 ∧ (0 ≤ a ∧ a < F 3 0) ∧ F 4 a = 0 ∧ ∃ b, LinesOf F a b r ∧ frz F F' a b r)) := by
  refine mM_of (L0 := [some (.ref x), some (.int (zI (a))), none, none, none, none]) hnt (by decide +kernel) rfl (Nat.le_of_ble_eq_true rfl) rfl rfl ?_
  intro Θ hΘ p e s m args below meth c A Q hC hQ
  have hnp := mI_np hI
  have hB := mI_B hI
  refine J_aload_n hC dX3_freeze_0 rfl ?_
  refine J_iload_n hC dX3_freeze_1 rfl ?_
  refine Jm_callVi (n := 1) hC hΘ (m_isParagraph hnt hD a ha hnp) (lw_V q1002 q1004 qs17 q61 q1005) ⟨rfl, by decide +kernel⟩ ⟨(Nat.le_of_ble_eq_true rfl), (Nat.le_of_ble_eq_true rfl)⟩ rfl rfl rfl rfl (Nat.le_of_ble_eq_true rfl) dX3_freeze_2 ?_
  intro ip F9 hr9
  obtain ⟨hr, e9⟩ := hr9
  rw [e9]
  refine J_istore_n (i := 2) hC dX3_freeze_5 rfl (Nat.le_of_ble_eq_true rfl) ?_
  refine J_aload_n hC dX3_freeze_6 rfl ?_
  refine J_iload_n hC dX3_freeze_7 rfl ?_
  refine J_if_ne (tgt := 15) hC (by first | with_reducible assumption | exact zR_mk (by omega) (by omega)) dX3_freeze_8 rfl (fun c8 => ?_) (fun c8 => ?_)
  · have ha6 : 0 ≤ a ∧ a < 6 := by omega
    have hip : 0 ≤ a ∧ a < F 3 0 := by omega
    have hk := mI_kept hI ha6.1 ha6.2
    have h4 := hk.1
    refine J_aload_n hC dX3_freeze_15 rfl ?_
    refine Jm_get hC 4 (by decide) q925 rfl rfl dX3_freeze_16 ?_
    refine J_iload_n hC dX3_freeze_19 rfl ?_
    refine Jm_zald hC 4 (n := 6) (v := F 4 a) rfl rfl (by decide) rfl (by omega) (by omega) dX3_freeze_20 ?_
    refine J_if_eq (tgt := 28) hC (by first | with_reducible assumption | exact zR_mk (by omega) (by omega)) dX3_freeze_21 rfl (fun c21 => ?_) (fun c21 => ?_)
    · refine J_iconst hC dX3_freeze_28 ?_
      refine Jm_callVi (n := 1) hC hΘ (m_holds hnt hD 0 (zR_mk (by omega) (by omega))) (lw_V q994 q996 qs16 q61 q997) ⟨rfl, by decide +kernel⟩ ⟨(Nat.le_of_ble_eq_true rfl), (Nat.le_of_ble_eq_true rfl)⟩ rfl rfl rfl rfl (Nat.le_of_ble_eq_true rfl) dX3_freeze_29 ?_
      intro r2 F9 hr9
      obtain ⟨hr2, e9⟩ := hr9
      rw [e9]
      have hs := scr_th 0 hB
      have hI1 := scr_mI hs hI
      have h40 : F 4 a = 0 := c21
      refine J_if_ne (tgt := 37) hC (by first | with_reducible assumption | exact zR_mk (by omega) (by omega)) dX3_freeze_32 rfl (fun c32 => ?_) (fun c32 => ?_)
      · refine J_aload_n hC dX3_freeze_37 rfl ?_
        refine J_iload_n hC dX3_freeze_38 rfl ?_
        refine Jm_callVv (n := 1) hC hΘ (m_marks hnt hD a (mI_mOk hI1 ha6.1 ha6.2) (mI_mW hI1 ha6.1 ha6.2) (mI_kept hI1 ha6.1 ha6.2) (mI_B hI1)) (lw_V q1025 q1027 qs19 q61 q1028) ⟨rfl, by decide +kernel⟩ ⟨(Nat.le_of_ble_eq_true rfl), (Nat.le_of_ble_eq_true rfl)⟩ rfl rfl rfl rfl (Nat.le_of_ble_eq_true rfl) dX3_freeze_39 ?_
        intro F2 hr9
        obtain ⟨b, n, m1, m2, m3, m4, m5, m6, m7⟩ := hr9
        refine J_aload_n hC dX3_freeze_42 rfl ?_
        refine Jm_get hC 4 (by decide) q925 rfl rfl dX3_freeze_43 ?_
        refine J_iload_n hC dX3_freeze_46 rfl ?_
        refine J_iconst hC dX3_freeze_47 ?_
        refine Jm_zast hC hD hΘ 4 (n := 6) rfl (by decide) rfl (by omega) (by omega) (by omega) dX3_freeze_48 ?_
        have hL := (LinesOf_scr hs.1).mp m1
        have hmq : mq (upF F 0 0 0) a = mq F a := sEq_mq hs.1 a
        rw [hmq] at m2
        have hsF2 : sEq F F2 := sEq_tr hs.1 m4
        have e5 : F2 5 a = F 5 a := by rw [hsF2 5 (by decide) (by decide) (by decide) (by decide) (by decide)]
        have e6 : F2 6 = F 6 := hsF2 6 (by decide) (by decide) (by decide) (by decide) (by decide)
        have e13 : F2 13 = F 13 := hsF2 13 (by decide) (by decide) (by decide) (by decide) (by decide)
        have hN := (mI_mOk hI ha6.1 ha6.2).2.1
        -- the kept rows, one by one
        have loop : ∀ (nn : Nat) (k : Int) (F3 : mF), 0 ≤ k → k ≤ F 5 a → F 5 a - k < nn → (∀ k', k' ≠ 4 → k' ≠ 13 → F3 k' = F2 k') → F3 4 = upI (F 4) a 1 → (∀ j, F3 13 j = 0 ∨ F3 13 j = 1) → (∀ j, mOut F a j → F3 13 j = F 13 j) → (∀ k' j', 0 ≤ k' → k' < k → 0 ≤ j' → j' < 16 → mRow F3 13 a k' j' = mRow F2 12 a k' j') → J p l e (jr 4 0 0) s m args below meth c A Q (mP g x AD Θ (F3) A) 0 0 51 [some (.ref x), some (.int (zI (a))), some (.int (zI (ip))), some (.int (zI (k))), none, none] [] := by
          intro nn
          induction nn with
          | zero => intro k F3 g1 g2 g3; omega
          | succ nn ih =>
            intro k F3 g1 g2 g3 ge g4 gb go gE
            refine J_iload_n hC dX3_freeze_51 rfl ?_
            refine J_aload_n hC dX3_freeze_52 rfl ?_
            refine Jm_get hC 5 (by decide) q926 rfl rfl dX3_freeze_53 ?_
            refine J_iload_n hC dX3_freeze_56 rfl ?_
            refine Jm_iald hC 5 (n := 6) (v := F 5 a) (by rw [ge 5 (by decide) (by decide)]; exact e5) rfl (by decide) rfl (by omega) (by omega) dX3_freeze_57 ?_
            refine J_icmp_ge (tgt := 111) hC (by first | with_reducible assumption | exact zR_mk (by omega) (by omega)) (by first | with_reducible assumption | exact zR_mk (by omega) (by omega)) dX3_freeze_58 rfl (fun c58 => ?_) (fun c58 => ?_)
            · have hn16 : F3 16 a = n := by rw [ge 16 (by decide) (by decide), m3, upI_self]
              refine J_aload_n hC dX3_freeze_111 rfl ?_
              refine Jm_get hC 16 (by decide) q937 rfl rfl dX3_freeze_112 ?_
              refine J_iload_n hC dX3_freeze_115 rfl ?_
              refine Jm_iald hC 16 (n := 6) (v := n) hn16 rfl (by decide) rfl (by omega) (by omega) dX3_freeze_116 ?_
              refine Jm_iret hC hQ  ⟨_, rfl, ?_⟩ dX3_freeze_117
              refine Or.inr (Or.inr ⟨?_, hip, h40, b, hL, ?_, g4, ?_, ?_, go, gb⟩)
              · rw [ge 0 (by decide) (by decide), m5]
                exact upF_self _ _ _ _
              · intro k' z1 z2 z3 z4 z5 z6 z7
                rw [ge k' z2 z4]
                exact hsF2 k' z1 z3 z5 z6 z7
              · intro j
                rw [ge 12 (by decide) (by decide)]
                exact m6 j
              · refine Mk_congr (fun k' j' z1 z2 z3 z4 => ?_) m2
                exact gE k' j' z1 (by rw [mq_N] at z2; omega) z3 z4
            · have hw := mI_word hI ha6.1 ha6.2 (k := k) (by omega) (by omega)
              have hw60 := mI_nw hI
              have inner : ∀ (n2 : Nat) (j : Int) (F3 : mF), 0 ≤ j → j ≤ 16 → 16 - j < n2 → (∀ k', k' ≠ 4 → k' ≠ 13 → F3 k' = F2 k') → F3 4 = upI (F 4) a 1 → (∀ j, F3 13 j = 0 ∨ F3 13 j = 1) → (∀ j, mOut F a j → F3 13 j = F 13 j) → (∀ k' j', 0 ≤ k' → k' < k ∨ k' = k ∧ j' < j → 0 ≤ j' → j' < 16 → mRow F3 13 a k' j' = mRow F2 12 a k' j') → J p l e (jr 4 0 0) s m args below meth c A Q (mP g x AD Θ (F3) A) 0 0 64 [some (.ref x), some (.int (zI (a))), some (.int (zI (ip))), some (.int (zI (k))), some (.int (zI (j))), none] [] := by
                intro n2
                induction n2 with
                | zero => intro j F3 g1 g2 g3; omega
                | succ n2 ih2 =>
                  intro j F3 g1 g2 g3 ge g4 gb go gE
                  refine J_iload hC dX3_freeze_64 rfl ?_
                  refine J_bipush hC dX3_freeze_66 (by decide) ?_
                  refine J_icmp_ge (tgt := 105) hC (by first | with_reducible assumption | exact zR_mk (by omega) (by omega)) (by first | with_reducible assumption | exact zR_mk (by omega) (by omega)) dX3_freeze_68 rfl (fun c68 => ?_) (fun c68 => ?_)
                  · refine J_iinc hC dX3_freeze_105 rfl (Nat.le_of_ble_eq_true rfl) ?_
                    refine J_goto (tgt := 51) hC dX3_freeze_108 rfl ?_
                    refine J_forget (L' := [some (.ref x), some (.int (zI (a))), some (.int (zI (ip))), some (.int (zI (k + 1))), none, none]) (by simp [jle]) ?_
                    exact ih (k + 1) F3 (by omega) (by omega) (by omega) ge g4 gb go (fun k' j' z1 z2 z3 z4 => gE k' j' z1 (by omega) z3 z4)
                  · have ew : F3 6 = F 6 := by rw [ge 6 (by decide) (by decide)]; exact e6
                    have e12 : F3 12 = F2 12 := ge 12 (by decide) (by decide)
                    have hb12 := m6 (16 * F 6 (60 * a + k) + j)
                    refine J_bipush hC dX3_freeze_71 (by decide) ?_
                    refine J_aload_n hC dX3_freeze_73 rfl ?_
                    refine J_iload_n hC dX3_freeze_74 rfl ?_
                    refine J_iload_n hC dX3_freeze_75 rfl ?_
                    refine Jm_callVi (n := 2) hC hΘ (m_word hnt hD a k ha6 (by omega)) (lw_V q1029 q1031 qs20 q61 q1032) ⟨rfl, by decide +kernel⟩ ⟨(Nat.le_of_ble_eq_true rfl), (Nat.le_of_ble_eq_true rfl)⟩ rfl rfl rfl rfl (Nat.le_of_ble_eq_true rfl) dX3_freeze_76 ?_
                    intro r9 F9 hr9
                    obtain ⟨er9, e9⟩ := hr9
                    rw [e9, er9, ew]
                    refine J_imul hC dX3_freeze_79 ?_
                    refine J_iload hC dX3_freeze_80 rfl ?_
                    refine J_iadd hC dX3_freeze_82 ?_
                    refine J_istore hC dX3_freeze_83 (Nat.le_of_ble_eq_true rfl) ?_
                    refine J_aload_n hC dX3_freeze_85 rfl ?_
                    refine Jm_get hC 13 (by decide) q934 rfl rfl dX3_freeze_86 ?_
                    refine J_iload hC dX3_freeze_89 rfl ?_
                    refine J_aload_n hC dX3_freeze_91 rfl ?_
                    refine Jm_get hC 12 (by decide) q933 rfl rfl dX3_freeze_92 ?_
                    refine J_iload hC dX3_freeze_95 rfl ?_
                    refine Jm_zald hC 12 (n := 960) (v := F2 12 (16 * F 6 (60 * a + k) + j)) (by rw [e12]) rfl (by decide) rfl (by omega) (by omega) dX3_freeze_97 ?_
                    refine Jm_zast hC hD hΘ 13 (n := 960) rfl (by decide) rfl hb12 (by omega) (by omega) dX3_freeze_98 ?_
                    refine J_iinc hC dX3_freeze_99 rfl (Nat.le_of_ble_eq_true rfl) ?_
                    refine J_goto (tgt := 64) hC dX3_freeze_102 rfl ?_
                    refine J_forget (L' := [some (.ref x), some (.int (zI (a))), some (.int (zI (ip))), some (.int (zI (k))), some (.int (zI (j + 1))), none]) (by simp [jle]) ?_
                    refine ih2 (j + 1) _ (by omega) (by omega) (by omega) (fun k' z1 z2 => (upF_k F3 _ _ z2).trans (ge k' z1 z2)) ((upF_k F3 _ _ (by decide)).trans g4) (fun j' => ?_) (fun j' hj' => ?_) (fun k' j' z1 z2 z3 z4 => ?_)
                    · by_cases hz9 : j' = 16 * F 6 (60 * a + k) + j
                      · rw [hz9, upF_self]; exact hb12
                      · rw [upF_j F3 _ _ hz9]; exact gb j'
                    · rw [upF_j F3 _ _ (fun e => hj' k (by omega) (by omega) (by omega))]
                      exact go j' hj'
                    · by_cases hz9 : k' = k ∧ j' = j
                      · unfold mRow
                        rw [upF_k F3 _ _ (show 6 ≠ 13 by decide), ew, hz9.1, hz9.2, upF_self, e6]
                      · have : mRow (upF F3 13 (16 * F 6 (60 * a + k) + j) (F2 12 (16 * F 6 (60 * a + k) + j))) 13 a k' j' = mRow F3 13 a k' j' := by
                          unfold mRow
                          rw [upF_k F3 _ _ (show 6 ≠ 13 by decide), ew, upF_j F3 _ _ (fun e => hz9 ?_)]
                          have w1 := mI_word hI ha6.1 ha6.2 (k := k') z1 (by omega)
                          have e7 : F 6 (60 * a + k') = F 6 (60 * a + k) := by omega
                          rw [e7] at w1
                          omega
                        rw [this]
                        exact gE k' j' z1 (by omega) z3 z4
              refine J_iconst hC dX3_freeze_61 ?_
              refine J_istore hC dX3_freeze_62 (Nat.le_of_ble_eq_true rfl) ?_
              refine J_forget (L' := [some (.ref x), some (.int (zI (a))), some (.int (zI (ip))), some (.int (zI (k))), some (.int (zI (0))), none]) (by simp [jle]) ?_
              exact inner 17 0 F3 (by omega) (by omega) (by omega) ge g4 gb go (fun k' j' z1 z2 z3 z4 => gE k' j' z1 (by omega) z3 z4)
        refine J_iconst hC dX3_freeze_49 ?_
        refine J_istore_n (i := 3) hC dX3_freeze_50 rfl (Nat.le_of_ble_eq_true rfl) ?_
        have h42 : F2 4 = F 4 := hsF2 4 (by decide) (by decide) (by decide) (by decide) (by decide)
        refine J_forget (L' := [some (.ref x), some (.int (zI (a))), some (.int (zI (ip))), some (.int (zI (0))), none, none]) (by simp [jle]) ?_
        refine loop (F 5 a + 1).toNat 0 _ (by omega) (by omega) (by omega) (fun k' z1 z2 => upF_k F2 _ _ z1) (by rw [upF_row, h42]) (fun j => ?_) (fun j hj => ?_) (fun k' j' z1 z2 => by omega)
        · rw [upF_k F2 _ _ (by decide), e13]
          exact hk.2.2 j
        · rw [upF_k F2 _ _ (by decide), e13]
      · omega
    · refine J_iconst hC dX3_freeze_24 ?_
      refine J_goto (tgt := 29) hC dX3_freeze_25 rfl ?_
      refine Jm_callVi (n := 1) hC hΘ (m_holds hnt hD 2 (zR_mk (by omega) (by omega))) (lw_V q994 q996 qs16 q61 q997) ⟨rfl, by decide +kernel⟩ ⟨(Nat.le_of_ble_eq_true rfl), (Nat.le_of_ble_eq_true rfl)⟩ rfl rfl rfl rfl (Nat.le_of_ble_eq_true rfl) dX3_freeze_29 ?_
      intro r2 F9 hr9
      obtain ⟨hr2, e9⟩ := hr9
      rw [e9]
      refine J_if_ne (tgt := 37) hC (by first | with_reducible assumption | exact zR_mk (by omega) (by omega)) dX3_freeze_32 rfl (fun c32 => ?_) (fun c32 => ?_)
      · omega
      · refine J_iconst hC dX3_freeze_35 ?_
        refine Jm_iret hC hQ  ⟨_, rfl, ?_⟩ dX3_freeze_36
        exact Or.inr (Or.inl ⟨rfl, hip, by omega⟩)
  · refine J_iconst hC dX3_freeze_11 ?_
    refine J_goto (tgt := 29) hC dX3_freeze_12 rfl ?_
    refine Jm_callVi (n := 1) hC hΘ (m_holds hnt hD 1 (zR_mk (by omega) (by omega))) (lw_V q994 q996 qs16 q61 q997) ⟨rfl, by decide +kernel⟩ ⟨(Nat.le_of_ble_eq_true rfl), (Nat.le_of_ble_eq_true rfl)⟩ rfl rfl rfl rfl (Nat.le_of_ble_eq_true rfl) dX3_freeze_29 ?_
    intro r2 F9 hr9
    obtain ⟨hr2, e9⟩ := hr9
    rw [e9]
    refine J_if_ne (tgt := 37) hC (by first | with_reducible assumption | exact zR_mk (by omega) (by omega)) dX3_freeze_32 rfl (fun c32 => ?_) (fun c32 => ?_)
    · omega
    · refine J_iconst hC dX3_freeze_35 ?_
      refine Jm_iret hC hQ  ⟨_, rfl, ?_⟩ dX3_freeze_36
      exact Or.inl ⟨rfl, by omega⟩
