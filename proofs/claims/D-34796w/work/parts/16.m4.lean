/-! THE MODEL: where lines end by the marks; marks -/
set_option maxRecDepth 100000
theorem lnAt_gap {q : PQ} {b : Int → Int} {n c k L : Int} (h : Ln q b n) (hL : pL q k = L) (h1 : 1 ≤ L) (h2 : L ≤ 15) (ha : lnAt b n c (16 * k + L - 1)) : lnAt b n c (16 * k + 15) := by
  obtain ⟨a1, a2, a3, a4⟩ := ha
  refine ⟨a1, a2, by omega, fun hm => ?_⟩
  have h3 := a4 hm
  have h4 := (h.2.2.2 c a1 hm).2
  rcases Int.lt_or_le (16 * k + 15) (b (c + 1)) with z | z
  · exact z
  · exfalso
    have e : b (c + 1) / 16 = k := by omega
    rcases h4 with h5 | h5
    · omega
    · rw [e, hL] at h5
      omega
theorem m_endOf {g : jG} {l : Launch} {x : Nat} {AD : Nat → Nat} {F : mF} (hnt : l.stackTraces = false) (hD : mD x AD) (a ln : Int) (hp : mOk F a) (hB : mB F) (b0 : Int → Int) (n0 : Int) (hL : Ln (mq F a) b0 n0) (hM : Mk (mq F a) (mRow F 12 a) b0 n0) (hln : 0 ≤ ln ∧ ln < n0) : mMi g l x AD yX3_endOf (ws_ yX3_endOf cX3_endOf 8 (some .int)) (jr 1 0 0) [.ref x, .int (zI (a)), .int (zI (ln))] F (fun r F' => r = endc (mq F a) (b0 (ln + 1)) ∧ F' = F) := by
  refine mM_of (L0 := [some (.ref x), some (.int (zI (a))), some (.int (zI (ln))), none, none, none, none, none]) hnt (by decide +kernel) rfl (Nat.le_of_ble_eq_true rfl) rfl rfl ?_
  intro Θ hΘ p e s m args below meth c A Q hC hQ
  have hq := mOk_p hp
  obtain ⟨hp1, hp2, hp3, hp4, hp5⟩ := hp
  have hN : pN (mq F a) = F 5 a := rfl
  have hn0 := Ln_n hL
  rw [hN] at hn0
  have loop : ∀ (n : Nat) (k c1 : Int), 0 ≤ k → k ≤ F 5 a → F 5 a - k < n → lnAt b0 n0 c1 (16 * k) → c1 ≤ ln → J p l e (jr 1 0 0) s m args below meth c A Q (mP g x AD Θ (F) A) 0 0 5 [some (.ref x), some (.int (zI (a))), some (.int (zI (ln))), some (.int (zI (c1))), some (.int (zI (k))), none, none, none] [] := by
    intro n
    induction n with
    | zero => intro k c1 h1 h2 h3; omega
    | succ n ih =>
      intro k c1 h1 h2 h3 hat hc1
      refine J_iload hC dX3_endOf_5 rfl ?_
      refine J_aload_n hC dX3_endOf_7 rfl ?_
      refine Jm_get hC 5 (by decide) q926 rfl rfl dX3_endOf_8 ?_
      refine J_iload_n hC dX3_endOf_11 rfl ?_
      refine Jm_iald hC 5 (n := 6) rfl rfl (by decide) rfl (by omega) (by omega) dX3_endOf_12 ?_
      refine J_icmp_ge (tgt := 115) hC (by first | with_reducible assumption | exact zR_mk (by omega) (by omega)) (by first | with_reducible assumption | exact zR_mk (by omega) (by omega)) dX3_endOf_13 rfl (fun c13 => ?_) (fun c13 => ?_)
      · exfalso
        have e : k = F 5 a := by omega
        rw [e] at hat
        have := lnAt_end hL hat
        omega
      · have hk3 := hp3 k (by omega) (by omega)
        obtain ⟨wd, hwd⟩ : ∃ wd, wd = F 6 (60 * a + k) := ⟨_, rfl⟩
        obtain ⟨Lk, hLk⟩ : ∃ z, z = F 8 (F 6 (60 * a + k)) := ⟨_, rfl⟩
        have hLq : pL (mq F a) k = Lk := by rw [hLk]; rfl
        rw [← hLk] at hk3
        rw [← hwd] at hk3 hLk
        have hE : ∀ j, mRow F 12 a k j = F 12 (16 * wd + j) := fun j => by rw [hwd]; rfl
        have inner : ∀ (n2 : Nat) (pl c1 iv : Int), 1 ≤ pl → pl ≤ Lk + 1 → Lk + 1 - pl < n2 → (pl ≤ Lk → lnAt b0 n0 c1 (16 * k + pl - 1)) → (pl = Lk + 1 → lnAt b0 n0 c1 (16 * (k + 1))) → c1 ≤ ln → J p l e (jr 1 0 0) s m args below meth c A Q (mP g x AD Θ (F) A) 0 0 28 [some (.ref x), some (.int (zI (a))), some (.int (zI (ln))), some (.int (zI (c1))), some (.int (zI (k))), some (.int (zI (wd))), some (.int (zI (pl))), none] [] := by
          intro n2
          induction n2 with
          | zero => intro pl c1 iv g1 g2 g3; omega
          | succ n2 ih2 =>
            intro pl c1 iv g1 g2 g3 ga gb hc
            have hc0 : -1 ≤ c1 ∧ zR c1 := by
              rcases Int.lt_or_le Lk pl with z | z
              · have := (gb (by omega)).1
                exact ⟨by omega, zR_mk (by omega) (by omega)⟩
              · have := (ga z).1
                exact ⟨by omega, zR_mk (by omega) (by omega)⟩
            refine J_iload hC dX3_endOf_28 rfl ?_
            refine J_aload_n hC dX3_endOf_30 rfl ?_
            refine Jm_get hC 8 (by decide) q929 rfl rfl dX3_endOf_31 ?_
            refine J_iload hC dX3_endOf_34 rfl ?_
            refine Jm_iald hC 8 (n := 60) (v := Lk) hLk.symm rfl (by decide) rfl (by omega) (by omega) dX3_endOf_36 ?_
            refine J_icmp_gt (tgt := 109) hC (by first | with_reducible assumption | exact zR_mk (by omega) (by omega)) (by first | with_reducible assumption | exact zR_mk (by omega) (by omega)) dX3_endOf_37 rfl (fun c37 => ?_) (fun c37 => ?_)
            · refine J_iinc hC dX3_endOf_109 rfl (Nat.le_of_ble_eq_true rfl) ?_
              refine J_goto (tgt := 5) hC dX3_endOf_112 rfl ?_
              refine J_forget (L' := [some (.ref x), some (.int (zI (a))), some (.int (zI (ln))), some (.int (zI (c1))), some (.int (zI (k + 1))), none, none, none]) (by simp [jle]) ?_
              exact ih (k + 1) c1 (by omega) (by omega) (by omega) (gb (by omega)) hc
            · have j69 : ∀ j u : Int, 0 ≤ j → j < 16 → mpos k j = u + 1 → lnAt b0 n0 c1 u → (pl < Lk ∧ u + 1 = 16 * k + pl ∨ pl = Lk ∧ u + 1 = 16 * (k + 1)) → J p l e (jr 1 0 0) s m args below meth c A Q (mP g x AD Θ (F) A) 0 0 69 [some (.ref x), some (.int (zI (a))), some (.int (zI (ln))), some (.int (zI (c1))), some (.int (zI (k))), some (.int (zI (wd))), some (.int (zI (pl))), none] [.int (zI (F 12 (16 * wd + j)))] := by
                intro j u j1 j2 ju hu hcase
                have hv := hB (16 * wd + j)
                have hmk := lnAt_mk hL hM hu (by omega) (by rw [hN]; omega) j1 j2 ju
                rw [hE] at hmk
                have j90 : (F 12 (16 * wd + j) = 1 → ¬ c1 = ln) → J p l e (jr 1 0 0) s m args below meth c A Q (mP g x AD Θ (F) A) 0 0 90 [some (.ref x), some (.int (zI (a))), some (.int (zI (ln))), some (.int (zI (c1))), some (.int (zI (k))), some (.int (zI (wd))), some (.int (zI (pl))), some (.int (zI (F 12 (16 * wd + j))))] [] := by
                  intro hne
                  refine J_iload_n hC dX3_endOf_90 rfl ?_
                  refine J_iload hC dX3_endOf_91 rfl ?_
                  refine J_if_eq (tgt := 100) hC (by first | with_reducible assumption | exact zR_mk (by omega) (by omega)) dX3_endOf_93 rfl (fun c93 => ?_) (fun c93 => ?_)
                  · refine J_iconst hC dX3_endOf_100 ?_
                    refine J_iadd hC dX3_endOf_101 ?_
                    refine J_istore_n (i := 3) hC dX3_endOf_102 rfl (Nat.le_of_ble_eq_true rfl) ?_
                    refine J_iinc hC dX3_endOf_103 rfl (Nat.le_of_ble_eq_true rfl) ?_
                    refine J_goto (tgt := 28) hC dX3_endOf_106 rfl ?_
                    have e : F 12 (16 * wd + j) = 0 := c93
                    rw [e, Int.add_zero] at hmk
                    refine J_forget (L' := [some (.ref x), some (.int (zI (a))), some (.int (zI (ln))), some (.int (zI (c1 + 0))), some (.int (zI (k))), some (.int (zI (wd))), some (.int (zI (pl + 1))), none]) (by simp [jle]) ?_
                    rw [Int.add_zero]
                    refine ih2 (pl + 1) c1 0 (by omega) (by omega) (by omega) (fun z => ?_) (fun z => ?_) hc
                    · rw [show 16 * k + (pl + 1) - 1 = u + 1 by omega]; exact hmk
                    · rw [show 16 * (k + 1) = u + 1 by omega]; exact hmk
                  · refine J_iconst hC dX3_endOf_96 ?_
                    refine J_goto (tgt := 101) hC dX3_endOf_97 rfl ?_
                    refine J_iadd hC dX3_endOf_101 ?_
                    refine J_istore_n (i := 3) hC dX3_endOf_102 rfl (Nat.le_of_ble_eq_true rfl) ?_
                    refine J_iinc hC dX3_endOf_103 rfl (Nat.le_of_ble_eq_true rfl) ?_
                    refine J_goto (tgt := 28) hC dX3_endOf_106 rfl ?_
                    have e : F 12 (16 * wd + j) = 1 := by omega
                    rw [e] at hmk
                    have := hne e
                    refine J_forget (L' := [some (.ref x), some (.int (zI (a))), some (.int (zI (ln))), some (.int (zI (c1 + 1))), some (.int (zI (k))), some (.int (zI (wd))), some (.int (zI (pl + 1))), none]) (by simp [jle]) ?_
                    refine ih2 (pl + 1) (c1 + 1) 0 (by omega) (by omega) (by omega) (fun z => ?_) (fun z => ?_) (by omega)
                    · rw [show 16 * k + (pl + 1) - 1 = u + 1 by omega]; exact hmk
                    · rw [show 16 * (k + 1) = u + 1 by omega]; exact hmk
                refine J_istore hC dX3_endOf_69 (Nat.le_of_ble_eq_true rfl) ?_
                refine J_iload hC dX3_endOf_71 rfl ?_
                refine J_if_eq (tgt := 90) hC (by first | with_reducible assumption | exact zR_mk (by omega) (by omega)) dX3_endOf_73 rfl (fun c73 => ?_) (fun c73 => ?_)
                · exact j90 (fun z => by omega)
                · refine J_iload_n hC dX3_endOf_76 rfl ?_
                  refine J_iload_n hC dX3_endOf_77 rfl ?_
                  refine J_icmp_ne (tgt := 90) hC hc0.2 (zR_mk (by omega) (by omega)) dX3_endOf_78 rfl (fun c78 => ?_) (fun c78 => ?_)
                  · exact j90 (fun _ => c78)
                  · refine J_bipush hC dX3_endOf_81 (by decide) ?_
                    refine J_iload hC dX3_endOf_83 rfl ?_
                    refine J_imul hC dX3_endOf_85 ?_
                    refine J_iload hC dX3_endOf_86 rfl ?_
                    refine J_iadd hC dX3_endOf_88 ?_
                    refine Jm_iret hC hQ  ⟨_, rfl, ?_⟩ dX3_endOf_89
                    refine ⟨?_, rfl⟩
                    have e : c1 = ln := c78
                    subst e
                    rcases hM k j (by omega) (by rw [hN]; omega) j1 j2 with ⟨-, i, i1, i2, i3⟩ | ⟨z, -⟩
                    · have hy := (lnAt_yes hL hu i1 i2 (i3.trans ju)).2.2
                      rw [hy]
                      unfold endc
                      rcases hcase with ⟨h4, h5⟩ | ⟨h4, h5⟩
                      · rw [if_pos (by omega)]; omega
                      · rw [if_neg (by omega), h5]
                        rw [show 16 * (k + 1) / 16 - 1 = k by omega, hLq]
                        omega
                    · rw [hE] at z
                      omega
              refine J_aload_n hC dX3_endOf_40 rfl ?_
              refine Jm_get hC 12 (by decide) q933 rfl rfl dX3_endOf_41 ?_
              refine J_bipush hC dX3_endOf_44 (by decide) ?_
              refine J_iload hC dX3_endOf_46 rfl ?_
              refine J_imul hC dX3_endOf_48 ?_
              refine J_iload hC dX3_endOf_49 rfl ?_
              refine J_aload_n hC dX3_endOf_51 rfl ?_
              refine Jm_get hC 8 (by decide) q929 rfl rfl dX3_endOf_52 ?_
              refine J_iload hC dX3_endOf_55 rfl ?_
              refine Jm_iald hC 8 (n := 60) (v := Lk) hLk.symm rfl (by decide) rfl (by omega) (by omega) dX3_endOf_57 ?_
              refine J_icmp_ne (tgt := 65) hC (by first | with_reducible assumption | exact zR_mk (by omega) (by omega)) (by first | with_reducible assumption | exact zR_mk (by omega) (by omega)) dX3_endOf_58 rfl (fun c58 => ?_) (fun c58 => ?_)
              · refine J_iload hC dX3_endOf_65 rfl ?_
                refine J_iadd hC dX3_endOf_67 ?_
                refine Jm_zald hC 12 (n := 960) rfl rfl (by decide) rfl (by omega) (by omega) dX3_endOf_68 ?_
                refine j69 pl (16 * k + pl - 1) (by omega) (by omega) ?_ (ga (by omega)) (Or.inl ⟨by omega, by omega⟩)
                unfold mpos
                rw [if_neg (by omega)]
                omega
              · refine J_iconst hC dX3_endOf_61 ?_
                refine J_goto (tgt := 67) hC dX3_endOf_62 rfl ?_
                refine J_iadd hC dX3_endOf_67 ?_
                refine Jm_zald hC 12 (n := 960) rfl rfl (by decide) rfl (by omega) (by omega) dX3_endOf_68 ?_
                refine j69 0 (16 * k + 15) (by omega) (by omega) ?_ (lnAt_gap hL hLq (by omega) (by omega) (by have := ga (by omega); rwa [c58] at this)) (Or.inr ⟨c58, by omega⟩)
                unfold mpos
                rw [if_pos rfl]
                omega
        refine J_aload_n hC dX3_endOf_16 rfl ?_
        refine J_iload_n hC dX3_endOf_17 rfl ?_
        refine J_iload hC dX3_endOf_18 rfl ?_
        refine Jm_callVi (n := 2) hC hΘ (m_word hnt hD a k (by omega) (by omega)) (lw_V q1029 q1031 qs20 q61 q1032) ⟨rfl, by decide +kernel⟩ ⟨(Nat.le_of_ble_eq_true rfl), (Nat.le_of_ble_eq_true rfl)⟩ rfl rfl rfl rfl (Nat.le_of_ble_eq_true rfl) dX3_endOf_20 ?_
        intro r F9 hr9
        obtain ⟨er9, e9⟩ := hr9
        rw [e9, er9, ← hwd]
        refine J_istore hC dX3_endOf_23 (Nat.le_of_ble_eq_true rfl) ?_
        refine J_iconst hC dX3_endOf_25 ?_
        refine J_istore hC dX3_endOf_26 (Nat.le_of_ble_eq_true rfl) ?_
        refine J_forget (L' := [some (.ref x), some (.int (zI (a))), some (.int (zI (ln))), some (.int (zI (c1))), some (.int (zI (k))), some (.int (zI (wd))), some (.int (zI (1))), none]) (by simp [jle]) ?_
        exact inner (Lk + 1).toNat 1 c1 0 (by omega) (by omega) (by omega) (fun _ => by rw [show 16 * k + 1 - 1 = 16 * k by omega]; exact hat) (fun z => by omega) hc1
  refine J_iconst hC dX3_endOf_0 ?_
  refine J_istore_n (i := 3) hC dX3_endOf_1 rfl (Nat.le_of_ble_eq_true rfl) ?_
  refine J_iconst hC dX3_endOf_2 ?_
  refine J_istore hC dX3_endOf_3 (Nat.le_of_ble_eq_true rfl) ?_
  exact loop (F 5 a + 1).toNat 0 0 (by omega) (by omega) (by omega) (by rw [Int.mul_zero]; exact lnAt_0 hL) hln.1
/-- a paragraph's words know their place, and are one each -/
def mW (F : mF) (p : Int) : Prop := ∀ k, 0 ≤ k → k < F 5 p → F 10 (F 6 (60 * p + k)) = k ∧ F 9 (F 6 (60 * p + k)) = p
/-- a frozen paragraph's kept marks show lines -/
def mKept (F : mF) (p : Int) : Prop := (F 4 p = 0 ∨ F 4 p = 1) ∧ (F 4 p = 1 → ∃ b n, Ln (mq F p) b n ∧ Mk (mq F p) (mRow F 13 p) b n) ∧ ∀ j, F 13 j = 0 ∨ F 13 j = 1
/-- outside a paragraph's rows -/
def mOut (F : mF) (p j : Int) : Prop := ∀ k, 0 ≤ k → k < F 5 p → ¬ (16 * F 6 (60 * p + k) ≤ j ∧ j < 16 * F 6 (60 * p + k) + 16)
theorem mpos_inj {k j k' j' : Int} (h1 : 0 ≤ j) (h2 : j < 16) (h3 : 0 ≤ j') (h4 : j' < 16) (h : mpos k j = mpos k' j') : k = k' ∧ j = j' := by
  unfold mpos at h
  split at h <;> split at h <;> omega
def itN (nx : Int → Int) : Nat → Int
  | 0 => 0
  | n + 1 => nx (itN nx n)
def itI (nx : Int → Int) (i : Int) : Int := itN nx i.toNat
theorem itI_0 (nx : Int → Int) : itI nx 0 = 0 := rfl
theorem itI_succ (nx : Int → Int) {i : Int} (h : 0 ≤ i) : itI nx (i + 1) = nx (itI nx i) := by
  unfold itI
  rw [show (i + 1).toNat = i.toNat + 1 by omega]
  rfl
/-- all but the marks is as it was -/
def eq12 (F F' : mF) : Prop := ∀ k, k ≠ 12 → F' k = F k
set_option maxHeartbeats 4000000 in
theorem m_marks {g : jG} {l : Launch} {x : Nat} {AD : Nat → Nat} {F : mF} (hnt : l.stackTraces = false) (hD : mD x AD) (a : Int) (hp : mOk F a) (hw : mW F a) (hk : mKept F a) (hB : mB F) : mMv g l x AD yX3_marks (ws_ yX3_marks cX3_marks 5 none) (jr 3 0 0) [.ref x, .int (zI (a))] F (fun F' => ∃ b n, LinesOf F a b n ∧ Mk (mq F a) (mRow F' 12 a) b n ∧ F' 16 = upI (F 16) a n ∧ sEq F F' ∧ F' 0 = F 0 ∧ mB F' ∧ ∀ j, mOut F a j → F' 12 j = F 12 j) := by
  refine mM_of (L0 := [some (.ref x), some (.int (zI (a))), none, none, none]) hnt (by decide +kernel) rfl (Nat.le_of_ble_eq_true rfl) rfl rfl ?_
  intro Θ hΘ p e s m args below meth c A Q hC hQ
  have hq := mOk_p hp
  have hp0 := hp
  obtain ⟨hp1, hp2, hp3, hp4, hp5⟩ := hp
  have hN : pN (mq F a) = F 5 a := rfl
  have h4 := hk.1
  -- the end: how many
  have fin : ∀ (F1 : mF) (b : Int → Int) (n : Int) (v2 v3 : Int), sEq F F1 → F1 0 = F 0 → F1 16 = F 16 → mB F1 → (∀ j, mOut F a j → F1 12 j = F 12 j) → LinesOf F a b n → Mk (mq F a) (mRow F1 12 a) b n → J p l e (jr 3 0 0) s m args below meth c A Q (mP g x AD Θ (F1) A) 0 0 161 [some (.ref x), some (.int (zI (a))), none, none, none] [] := by
    intro F1 b n v2 v3 he h0 h16 hb1 ho hL hM
    have e5 : F1 5 a = F 5 a := by rw [he 5 (by decide) (by decide) (by decide) (by decide) (by decide)]
    have e6 : F1 6 = F 6 := he 6 (by decide) (by decide) (by decide) (by decide) (by decide)
    refine J_aload_n hC dX3_marks_161 rfl ?_
    refine Jm_get hC 16 (by decide) q937 rfl rfl dX3_marks_162 ?_
    refine J_iload_n hC dX3_marks_165 rfl ?_
    refine J_aload_n hC dX3_marks_166 rfl ?_
    refine J_iload_n hC dX3_marks_167 rfl ?_
    refine J_aload_n hC dX3_marks_168 rfl ?_
    refine Jm_get hC 5 (by decide) q926 rfl rfl dX3_marks_169 ?_
    refine J_iload_n hC dX3_marks_172 rfl ?_
    refine Jm_iald hC 5 (n := 6) (v := F 5 a) e5 rfl (by decide) rfl (by omega) (by omega) dX3_marks_173 ?_
    refine Jm_callVi (n := 2) hC hΘ (m_endsIn hnt hD a (F 5 a) hp1 hp2 (fun k z1 z2 => by rw [e6]; exact (hp3 k z1 z2).1) hb1) (lw_V q1050 q1052 qs25 q61 q1053) ⟨rfl, by decide +kernel⟩ ⟨(Nat.le_of_ble_eq_true rfl), (Nat.le_of_ble_eq_true rfl)⟩ rfl rfl rfl rfl (Nat.le_of_ble_eq_true rfl) dX3_marks_174 ?_
    intro r F9 hr9
    obtain ⟨er9, e9⟩ := hr9
    rw [e9, er9]
    have en : sI (mE F1 a) (F 5 a) = n := mk_total hq (LinesOf_Ln hq hL) hM
    rw [en]
    refine Jm_iast hC hD hΘ 16 (n := 6) rfl (by decide) rfl (by omega) (by omega) dX3_marks_177 ?_
    refine Jm_vret hC hQ ⟨rfl, ?_⟩ dX3_marks_178
    refine ⟨b, n, hL, ?_, ?_, sEq_up he (by decide), ?_, ?_, fun j hj => ?_⟩
    · exact hM
    · rw [upF_row, h16]
    · rw [upF_k F1 _ _ (by decide)]; exact h0
    · intro j
      rw [upF_k F1 _ _ (by decide)]
      exact hb1 j
    · rw [upF_k F1 _ _ (by decide)]
      exact ho j hj
  -- behind the first loop
  have mid : ∀ (F1 : mF), eq12 F F1 → mB F1 → (∀ j, mOut F a j → F1 12 j = F 12 j) → (∀ k j, 0 ≤ k → k < F 5 a → 0 ≤ j → j < 16 → mRow F1 12 a k j = if F 4 a = 1 then mRow F 13 a k j else 0) → J p l e (jr 3 0 0) s m args below meth c A Q (mP g x AD Θ (F1) A) 0 0 76 [some (.ref x), some (.int (zI (a))), none, none, none] [] := by
    intro F1 he hb1 ho hE
    have heS : sEq F F1 := fun k _ z _ _ _ => he k z
    have hmq : mq F1 a = mq F a := sEq_mq heS a
    have hMc : ∀ (b : Int → Int) (n : Int), mRow F1 12 a = mRow F1 12 a := fun _ _ => rfl
    refine J_aload_n hC dX3_marks_76 rfl ?_
    refine Jm_get hC 4 (by decide) q925 rfl rfl dX3_marks_77 ?_
    refine J_iload_n hC dX3_marks_80 rfl ?_
    refine Jm_zald hC 4 (n := 6) (v := F 4 a) (by rw [he 4 (by decide)]) rfl (by decide) rfl (by omega) (by omega) dX3_marks_81 ?_
    refine J_if_ne (tgt := 161) hC (by first | with_reducible assumption | exact zR_mk (by omega) (by omega)) dX3_marks_82 rfl (fun c82 => ?_) (fun c82 => ?_)
    · have h41 : F 4 a = 1 := by omega
      obtain ⟨b, n, hL, hM⟩ := hk.2.1 h41
      refine fin F1 b n 0 0 heS (he 0 (by decide)) (he 16 (by decide)) hb1 ho (Or.inl ⟨h41, hL, hM⟩) (fun k j z1 z2 z3 z4 => ?_)
      rw [hE k j z1 z2 z3 z4, if_pos h41]
      exact hM k j z1 z2 z3 z4
    · have h40 : F 4 a = 0 := c82
      have hz : ∀ k j, 0 ≤ k → k < F 5 a → 0 ≤ j → j < 16 → mRow F1 12 a k j = 0 := fun k j z1 z2 z3 z4 => by
        rw [hE k j z1 z2 z3 z4, if_neg (by omega)]
      refine J_aload_n hC dX3_marks_85 rfl ?_
      refine J_iload_n hC dX3_marks_86 rfl ?_
      refine Jm_callVv (n := 1) hC hΘ (m_breaks hnt hD a (sEq_mOk heS hp0)) (lw_V q1033 q1035 qs21 q61 q1036) ⟨rfl, by decide +kernel⟩ ⟨(Nat.le_of_ble_eq_true rfl), (Nat.le_of_ble_eq_true rfl)⟩ rfl rfl rfl rfl (Nat.le_of_ble_eq_true rfl) dX3_marks_87 ?_
      intro F9 hr9
      rw [hmq] at hr9
      obtain ⟨he2, hbst⟩ := hr9
      refine J_iconst hC dX3_marks_90 ?_
      refine J_istore_n (i := 2) hC dX3_marks_91 rfl (Nat.le_of_ble_eq_true rfl) ?_
      -- the chain
      have walk : ∀ (n : Nat) (i : Int) (F3 : mF), 0 ≤ i → (∀ i', 0 ≤ i' → i' < i → itI (F9 15) i' < 16 * F 5 a) → itI (F9 15) i ≤ 16 * F 5 a → 16 * F 5 a - itI (F9 15) i < n → eq12 F9 F3 → mB F3 → (∀ j, mOut F a j → F3 12 j = F 12 j) → Mk (mq F a) (mRow F3 12 a) (itI (F9 15)) i → J p l e (jr 3 0 0) s m args below meth c A Q (mP g x AD Θ (F3) A) 0 0 92 [some (.ref x), some (.int (zI (a))), some (.int (zI (itI (F9 15) i))), none, none] [] := by
        intro n
        induction n with
        | zero => intro i F3 g1 g2 g3 g4; omega
        | succ n ih =>
          intro i F3 g1 g2 g3 g4 ge gb go gM
          have hch : ∀ i', 0 ≤ i' → i' < i → itI (F9 15) i' < 16 * pN (mq F a) ∧ itI (F9 15) (i' + 1) = F9 15 (itI (F9 15) i') := fun i' z1 z2 => ⟨g2 i' z1 z2, itI_succ _ z1⟩
          have hsp := chain_sp hq hbst (itI_0 _) hch i g1 (Int.le_refl _)
          have hsle := isSp_le hq hsp
          have e5 : F3 5 a = F 5 a := by rw [ge 5 (by decide), he2 5 (by decide) (by decide), he 5 (by decide)]
          refine J_iload_n hC dX3_marks_92 rfl ?_
          refine J_bipush hC dX3_marks_93 (by decide) ?_
          refine J_aload_n hC dX3_marks_95 rfl ?_
          refine Jm_get hC 5 (by decide) q926 rfl rfl dX3_marks_96 ?_
          refine J_iload_n hC dX3_marks_99 rfl ?_
          refine Jm_iald hC 5 (n := 6) (v := F 5 a) e5 rfl (by decide) rfl (by omega) (by omega) dX3_marks_100 ?_
          refine J_imul hC dX3_marks_101 ?_
          refine J_icmp_ge (tgt := 161) hC (by first | with_reducible assumption | exact zR_mk (by omega) (by omega)) (by first | with_reducible assumption | exact zR_mk (by omega) (by omega)) dX3_marks_102 rfl (fun c102 => ?_) (fun c102 => ?_)
          · have hend : itI (F9 15) i = 16 * F 5 a := by omega
            have hLU : LnU (mq F a) (itI (F9 15)) i := ⟨F9 14, F9 15, hbst, g1, itI_0 _, hend, hch⟩
            refine J_forget (L' := [some (.ref x), some (.int (zI (a))), none, none, none]) (by simp [jle]) ?_
            refine fin F3 _ i 0 0 (fun k z1 z2 z3 z4 z5 => by rw [ge k z2, he2 k z3 z4, he k z2]) (by rw [ge 0 (by decide), he2 0 (by decide) (by decide), he 0 (by decide)]) (by rw [ge 16 (by decide), he2 16 (by decide) (by decide), he 16 (by decide)]) gb go (Or.inr ⟨h40, hLU⟩) gM
          · have hlt : itI (F9 15) i < 16 * F 5 a := by omega
            have hb1 := hbst.2 _ hsp hlt
            obtain ⟨nt, hnt9⟩ : ∃ z, z = itI (F9 15) (i + 1) := ⟨_, rfl⟩
            have hnx : F9 15 (itI (F9 15) i) = nt := by rw [hnt9, itI_succ _ g1]
            have hfe := hb1.1
            rw [hnx] at hfe
            have hntle := isSp_le hq hfe.1
            have hgt : itI (F9 15) i < nt := hfe.2.1
            have step : ∀ k j : Int, 0 ≤ k → k < F 5 a → 0 ≤ j → j < 16 → mpos k j = nt → J p l e (jr 3 0 0) s m args below meth c A Q (mP g x AD Θ (upF F3 12 (16 * F 6 (60 * a + k) + j) 1) A) 0 0 92 [some (.ref x), some (.int (zI (a))), some (.int (zI (nt))), none, none] [] := by
              intro k j k1 k2 j1 j2 hpos
              rw [hnt9]
              refine ih (i + 1) _ (by omega) (fun i' z1 z2 => ?_) (by rw [← hnt9]; exact hntle.2) (by rw [← hnt9]; omega) (fun k' z => (upF_k F3 _ _ z).trans (ge k' z)) (fun j' => ?_) (fun j' hj' => ?_) (fun k' j' z1 z2 z3 z4 => ?_)
              · by_cases hz9 : i' = i
                · rw [hz9]; exact hlt
                · exact g2 i' z1 (by omega)
              · by_cases hz9 : j' = 16 * F 6 (60 * a + k) + j
                · rw [hz9, upF_self]; exact Or.inr rfl
                · rw [upF_j F3 _ _ hz9]; exact gb j'
              · rw [upF_j F3 _ _ (fun e => hj' k k1 k2 (by omega))]
                exact go j' hj'
              · have hrow : mRow (upF F3 12 (16 * F 6 (60 * a + k) + j) 1) 12 a k' j' = if k' = k ∧ j' = j then 1 else mRow F3 12 a k' j' := by
                  have e6 : F3 6 = F 6 := by rw [ge 6 (by decide), he2 6 (by decide) (by decide), he 6 (by decide)]
                  unfold mRow
                  rw [upF_k F3 _ _ (show 6 ≠ 12 by decide), e6]
                  by_cases hz9 : k' = k ∧ j' = j
                  · rw [if_pos hz9, hz9.1, hz9.2, upF_self]
                  · rw [if_neg hz9, upF_j F3 _ _ (fun e => hz9 ?_)]
                    have w1 := (hw k k1 k2).1
                    have w2 := (hw k' z1 z2).1
                    have e7 : F 6 (60 * a + k') = F 6 (60 * a + k) := by omega
                    rw [e7] at w2
                    omega
                rw [hrow]
                by_cases hz9 : k' = k ∧ j' = j
                · rw [if_pos hz9]
                  exact Or.inl ⟨rfl, i, g1, by omega, by rw [← hnt9, hz9.1, hz9.2]; exact hpos.symm⟩
                · rw [if_neg hz9]
                  rcases gM k' j' z1 z2 z3 z4 with ⟨q1, i', q2, q3, q4⟩ | ⟨q1, q2⟩
                  · exact Or.inl ⟨q1, i', q2, by omega, q4⟩
                  · refine Or.inr ⟨q1, fun i' y1 y2 y3 => ?_⟩
                    by_cases hy : i' = i
                    · rw [hy, ← hnt9, ← hpos] at y3
                      have := mpos_inj j1 j2 z3 z4 y3
                      exact hz9 ⟨this.1.symm, this.2.symm⟩
                    · exact q2 i' y1 (by omega) y3
            have e6 : F3 6 = F 6 := by rw [ge 6 (by decide), he2 6 (by decide) (by decide), he 6 (by decide)]
            refine J_aload_n hC dX3_marks_105 rfl ?_
            refine Jm_get hC 15 (by decide) q936 rfl rfl dX3_marks_106 ?_
            refine J_iload_n hC dX3_marks_109 rfl ?_
            refine Jm_iald hC 15 (n := 976) (v := nt) (by rw [ge 15 (by decide)]; exact hnx) rfl (by decide) rfl (by omega) (by omega) dX3_marks_110 ?_
            refine J_istore_n (i := 2) hC dX3_marks_111 rfl (Nat.le_of_ble_eq_true rfl) ?_
            refine J_iload_n hC dX3_marks_112 rfl ?_
            refine J_bipush hC dX3_marks_113 (by decide) ?_
            refine J_irem hC dX3_marks_115 (zR_mk (by omega) (by omega)) (zR_mk (by omega) (by omega)) (by omega) (by omega) ?_
            refine J_istore_n (i := 3) hC dX3_marks_116 rfl (Nat.le_of_ble_eq_true rfl) ?_
            refine J_aload_n hC dX3_marks_117 rfl ?_
            refine Jm_get hC 12 (by decide) q933 rfl rfl dX3_marks_118 ?_
            refine J_iload_n hC dX3_marks_121 rfl ?_
            refine J_if_le (tgt := 142) hC (by first | with_reducible assumption | exact zR_mk (by omega) (by omega)) dX3_marks_122 rfl (fun c122 => ?_) (fun c122 => ?_)
            · refine J_bipush hC dX3_marks_142 (by decide) ?_
              refine J_aload_n hC dX3_marks_144 rfl ?_
              refine J_iload_n hC dX3_marks_145 rfl ?_
              refine J_iload_n hC dX3_marks_146 rfl ?_
              refine J_bipush hC dX3_marks_147 (by decide) ?_
              refine J_idiv hC dX3_marks_149 (zR_mk (by omega) (by omega)) (zR_mk (by omega) (by omega)) (by omega) (by omega) ?_
              refine J_iconst hC dX3_marks_150 ?_
              refine J_isub hC dX3_marks_151 ?_
              refine Jm_callVi (n := 2) hC hΘ (m_word hnt hD a (nt / 16 - 1) hp1 (by omega)) (lw_V q1029 q1031 qs20 q61 q1032) ⟨rfl, by decide +kernel⟩ ⟨(Nat.le_of_ble_eq_true rfl), (Nat.le_of_ble_eq_true rfl)⟩ rfl rfl rfl rfl (Nat.le_of_ble_eq_true rfl) dX3_marks_152 ?_
              intro r F9 hr9
              obtain ⟨er9, e9⟩ := hr9
              rw [e9, er9, e6]
              refine J_imul hC dX3_marks_155 ?_
              refine J_iconst hC dX3_marks_156 ?_
              have hw9 := hp3 (nt / 16 - 1) (by omega) (by omega)
              refine Jm_zast hC hD hΘ 12 (n := 960) rfl (by decide) rfl (by omega) (by omega) (by omega) dX3_marks_157 ?_
              refine J_goto (tgt := 92) hC dX3_marks_158 rfl ?_
              refine J_forget (L' := [some (.ref x), some (.int (zI (a))), some (.int (zI (nt))), none, none]) (by simp [jle]) ?_
              have := step (nt / 16 - 1) 0 (by omega) (by omega) (by omega) (by omega) (by unfold mpos; rw [if_pos rfl]; omega)
              rw [Int.add_zero] at this
              exact this
            · refine J_bipush hC dX3_marks_125 (by decide) ?_
              refine J_aload_n hC dX3_marks_127 rfl ?_
              refine J_iload_n hC dX3_marks_128 rfl ?_
              refine J_iload_n hC dX3_marks_129 rfl ?_
              refine J_bipush hC dX3_marks_130 (by decide) ?_
              refine J_idiv hC dX3_marks_132 (zR_mk (by omega) (by omega)) (zR_mk (by omega) (by omega)) (by omega) (by omega) ?_
              refine Jm_callVi (n := 2) hC hΘ (m_word hnt hD a (nt / 16) hp1 (by omega)) (lw_V q1029 q1031 qs20 q61 q1032) ⟨rfl, by decide +kernel⟩ ⟨(Nat.le_of_ble_eq_true rfl), (Nat.le_of_ble_eq_true rfl)⟩ rfl rfl rfl rfl (Nat.le_of_ble_eq_true rfl) dX3_marks_133 ?_
              intro r F9 hr9
              obtain ⟨er9, e9⟩ := hr9
              rw [e9, er9, e6]
              refine J_imul hC dX3_marks_136 ?_
              refine J_iload_n hC dX3_marks_137 rfl ?_
              refine J_iadd hC dX3_marks_138 ?_
              refine J_goto (tgt := 156) hC dX3_marks_139 rfl ?_
              refine J_iconst hC dX3_marks_156 ?_
              have hw9 := hp3 (nt / 16) (by omega) (by omega)
              refine Jm_zast hC hD hΘ 12 (n := 960) rfl (by decide) rfl (by omega) (by omega) (by omega) dX3_marks_157 ?_
              refine J_goto (tgt := 92) hC dX3_marks_158 rfl ?_
              refine J_forget (L' := [some (.ref x), some (.int (zI (a))), some (.int (zI (nt))), none, none]) (by simp [jle]) ?_
              exact step (nt / 16) (nt % 16) (by omega) (by omega) (by omega) (by omega) (by unfold mpos; rw [if_neg (by omega)]; omega)
      have e0 : itI (F9 15) 0 = 0 := itI_0 _
      have := walk (16 * F 5 a + 1).toNat 0 F9 (Int.le_refl _) (fun i' z1 z2 => by omega) (by rw [e0]; omega) (by rw [e0]; omega) (fun _ _ => rfl) (fun j => by rw [he2 12 (by decide) (by decide)]; exact hb1 j) (fun j hj => by rw [he2 12 (by decide) (by decide)]; exact ho j hj) (fun k j z1 z2 z3 z4 => Or.inr ⟨by
        have := hz k j z1 z2 z3 z4
        unfold mRow at this ⊢
        rw [he2 12 (by decide) (by decide), he2 6 (by decide) (by decide)]
        exact this, fun i' y1 y2 => by omega⟩)
      rw [e0] at this
      refine J_forget (L' := [some (.ref x), some (.int (zI (a))), some (.int (zI (0))), none, none]) (by simp [jle]) ?_
      exact this
  -- the first loop
  have loop : ∀ (n : Nat) (k : Int) (F1 : mF), 0 ≤ k → k ≤ F 5 a → F 5 a - k < n → eq12 F F1 → mB F1 → (∀ j, mOut F a j → F1 12 j = F 12 j) → (∀ k' j, 0 ≤ k' → k' < k → 0 ≤ j → j < 16 → mRow F1 12 a k' j = if F 4 a = 1 then mRow F 13 a k' j else 0) → J p l e (jr 3 0 0) s m args below meth c A Q (mP g x AD Θ (F1) A) 0 0 2 [some (.ref x), some (.int (zI (a))), some (.int (zI (k))), none, none] [] := by
    intro n
    induction n with
    | zero => intro k F1 h1 h2 h3; omega
    | succ n ih =>
      intro k F1 h1 h2 h3 he hb1 ho hE
      refine J_iload_n hC dX3_marks_2 rfl ?_
      refine J_aload_n hC dX3_marks_3 rfl ?_
      refine Jm_get hC 5 (by decide) q926 rfl rfl dX3_marks_4 ?_
      refine J_iload_n hC dX3_marks_7 rfl ?_
      refine Jm_iald hC 5 (n := 6) (v := F 5 a) (by rw [he 5 (by decide)]) rfl (by decide) rfl (by omega) (by omega) dX3_marks_8 ?_
      refine J_icmp_ge (tgt := 76) hC (by first | with_reducible assumption | exact zR_mk (by omega) (by omega)) (by first | with_reducible assumption | exact zR_mk (by omega) (by omega)) dX3_marks_9 rfl (fun c9 => ?_) (fun c9 => ?_)
      · refine J_forget (L' := [some (.ref x), some (.int (zI (a))), none, none, none]) (by simp [jle]) ?_
        exact mid F1 he hb1 ho (fun k' j z1 z2 z3 z4 => hE k' j z1 (by omega) z3 z4)
      · have hk3 := hp3 k (by omega) (by omega)
        have inner : ∀ (n2 : Nat) (j : Int) (F1 : mF), 0 ≤ j → j ≤ 16 → 16 - j < n2 → eq12 F F1 → mB F1 → (∀ j, mOut F a j → F1 12 j = F 12 j) → (∀ k' j', 0 ≤ k' → k' < k ∨ k' = k ∧ j' < j → 0 ≤ j' → j' < 16 → mRow F1 12 a k' j' = if F 4 a = 1 then mRow F 13 a k' j' else 0) → J p l e (jr 3 0 0) s m args below meth c A Q (mP g x AD Θ (F1) A) 0 0 14 [some (.ref x), some (.int (zI (a))), some (.int (zI (k))), some (.int (zI (j))), none] [] := by
          intro n2
          induction n2 with
          | zero => intro j F1 g1 g2 g3; omega
          | succ n2 ih2 =>
            intro j F1 g1 g2 g3 he hb1 ho hE
            refine J_iload_n hC dX3_marks_14 rfl ?_
            refine J_bipush hC dX3_marks_15 (by decide) ?_
            refine J_icmp_ge (tgt := 70) hC (by first | with_reducible assumption | exact zR_mk (by omega) (by omega)) (by first | with_reducible assumption | exact zR_mk (by omega) (by omega)) dX3_marks_17 rfl (fun c17 => ?_) (fun c17 => ?_)
            · refine J_iinc hC dX3_marks_70 rfl (Nat.le_of_ble_eq_true rfl) ?_
              refine J_goto (tgt := 2) hC dX3_marks_73 rfl ?_
              refine J_forget (L' := [some (.ref x), some (.int (zI (a))), some (.int (zI (k + 1))), none, none]) (by simp [jle]) ?_
              exact ih (k + 1) F1 (by omega) (by omega) (by omega) he hb1 ho (fun k' j' z1 z2 z3 z4 => hE k' j' z1 (by omega) z3 z4)
            · have h13 := hk.2.2 (16 * F 6 (60 * a + k) + j)
              have set1 : ∀ v : Int, v = (if F 4 a = 1 then F 13 (16 * F 6 (60 * a + k) + j) else 0) → J p l e (jr 3 0 0) s m args below meth c A Q (mP g x AD Θ (F1) A) 0 0 63 [some (.ref x), some (.int (zI (a))), some (.int (zI (k))), some (.int (zI (j))), some (.int (zI (16 * F 6 (60 * a + k) + j)))] [.int (zI v), .int (zI (16 * F 6 (60 * a + k) + j)), .ref (AD 12)] := by
                intro v hv
                have hv01 : v = 0 ∨ v = 1 := by
                  rw [hv]
                  split
                  · exact h13
                  · exact Or.inl rfl
                refine Jm_zast hC hD hΘ 12 (n := 960) rfl (by decide) rfl (by omega) (by omega) (by omega) dX3_marks_63 ?_
                refine J_iinc hC dX3_marks_64 rfl (Nat.le_of_ble_eq_true rfl) ?_
                refine J_goto (tgt := 14) hC dX3_marks_67 rfl ?_
                refine J_forget (L' := [some (.ref x), some (.int (zI (a))), some (.int (zI (k))), some (.int (zI (j + 1))), none]) (by simp [jle]) ?_
                refine ih2 (j + 1) _ (by omega) (by omega) (by omega) (fun k' z => (upF_k F1 _ _ z).trans (he k' z)) (fun j' => ?_) (fun j' hj' => ?_) (fun k' j' z1 z2 z3 z4 => ?_)
                · by_cases hz9 : j' = 16 * F 6 (60 * a + k) + j
                  · rw [hz9, upF_self]; exact hv01
                  · rw [upF_j F1 _ _ hz9]; exact hb1 j'
                · rw [upF_j F1 _ _ (fun e => hj' k (by omega) (by omega) (by omega))]
                  exact ho j' hj'
                · have e6 : F1 6 = F 6 := he 6 (by decide)
                  have hk'N : k' < F 5 a := by omega
                  by_cases hz9 : k' = k ∧ j' = j
                  · have : mRow (upF F1 12 (16 * F 6 (60 * a + k) + j) v) 12 a k' j' = v := by
                      unfold mRow
                      rw [upF_k F1 _ _ (show 6 ≠ 12 by decide), e6, hz9.1, hz9.2, upF_self]
                    rw [this, hv, hz9.1, hz9.2]
                    rfl
                  · have : mRow (upF F1 12 (16 * F 6 (60 * a + k) + j) v) 12 a k' j' = mRow F1 12 a k' j' := by
                      unfold mRow
                      rw [upF_k F1 _ _ (show 6 ≠ 12 by decide), e6, upF_j F1 _ _ (fun e => hz9 ?_)]
                      have w1 := (hw k (by omega) (by omega)).1
                      have w2 := (hw k' z1 hk'N).1
                      have e7 : F 6 (60 * a + k') = F 6 (60 * a + k) := by omega
                      rw [e7] at w2
                      omega
                    rw [this]
                    exact hE k' j' z1 (by omega) z3 z4
              refine J_bipush hC dX3_marks_20 (by decide) ?_
              refine J_aload_n hC dX3_marks_22 rfl ?_
              refine J_iload_n hC dX3_marks_23 rfl ?_
              refine J_iload_n hC dX3_marks_24 rfl ?_
              refine Jm_callVi (n := 2) hC hΘ (m_word hnt hD a k hp1 (by omega)) (lw_V q1029 q1031 qs20 q61 q1032) ⟨rfl, by decide +kernel⟩ ⟨(Nat.le_of_ble_eq_true rfl), (Nat.le_of_ble_eq_true rfl)⟩ rfl rfl rfl rfl (Nat.le_of_ble_eq_true rfl) dX3_marks_25 ?_
              intro r F9 hr9
              obtain ⟨er9, e9⟩ := hr9
              rw [e9, er9, he 6 (by decide)]
              refine J_imul hC dX3_marks_28 ?_
              refine J_iload_n hC dX3_marks_29 rfl ?_
              refine J_iadd hC dX3_marks_30 ?_
              refine J_istore hC dX3_marks_31 (Nat.le_of_ble_eq_true rfl) ?_
              refine J_aload_n hC dX3_marks_33 rfl ?_
              refine Jm_get hC 12 (by decide) q933 rfl rfl dX3_marks_34 ?_
              refine J_iload hC dX3_marks_37 rfl ?_
              refine J_aload_n hC dX3_marks_39 rfl ?_
              refine Jm_get hC 4 (by decide) q925 rfl rfl dX3_marks_40 ?_
              refine J_iload_n hC dX3_marks_43 rfl ?_
              refine Jm_zald hC 4 (n := 6) (v := F 4 a) (by rw [he 4 (by decide)]) rfl (by decide) rfl (by omega) (by omega) dX3_marks_44 ?_
              refine J_if_eq (tgt := 62) hC (by first | with_reducible assumption | exact zR_mk (by omega) (by omega)) dX3_marks_45 rfl (fun c45 => ?_) (fun c45 => ?_)
              · refine J_iconst hC dX3_marks_62 ?_
                exact set1 0 (by rw [if_neg (by omega)])
              · refine J_aload_n hC dX3_marks_48 rfl ?_
                refine Jm_get hC 13 (by decide) q934 rfl rfl dX3_marks_49 ?_
                refine J_iload hC dX3_marks_52 rfl ?_
                refine Jm_zald hC 13 (n := 960) (v := F 13 (16 * F 6 (60 * a + k) + j)) (by rw [he 13 (by decide)]) rfl (by decide) rfl (by omega) (by omega) dX3_marks_54 ?_
                refine J_if_eq (tgt := 62) hC (by first | with_reducible assumption | exact zR_mk (by omega) (by omega)) dX3_marks_55 rfl (fun c55 => ?_) (fun c55 => ?_)
                · refine J_iconst hC dX3_marks_62 ?_
                  exact set1 0 (by rw [if_pos (by omega)]; exact c55.symm)
                · refine J_iconst hC dX3_marks_58 ?_
                  refine J_goto (tgt := 63) hC dX3_marks_59 rfl ?_
                  exact set1 1 (by rw [if_pos (by omega)]; omega)
        refine J_iconst hC dX3_marks_12 ?_
        refine J_istore_n (i := 3) hC dX3_marks_13 rfl (Nat.le_of_ble_eq_true rfl) ?_
        refine J_forget (L' := [some (.ref x), some (.int (zI (a))), some (.int (zI (k))), some (.int (zI (0))), none]) (by simp [jle]) ?_
        exact inner 17 0 F1 (by omega) (by omega) (by omega) he hb1 ho (fun k' j' z1 z2 z3 z4 => hE k' j' z1 (by omega) z3 z4)
  refine J_iconst hC dX3_marks_0 ?_
  refine J_istore_n (i := 2) hC dX3_marks_1 rfl (Nat.le_of_ble_eq_true rfl) ?_
  exact loop (F 5 a + 1).toNat 0 F (by omega) (by omega) (by omega) (fun _ _ => rfl) hB (fun _ _ => rfl) (fun k' j z1 z2 => by omega)
