/-! THE MODEL: errors and readers, votes, words, the page -/
set_option maxRecDepth 100000
def opn (F : mF) (w : Int) : Prop := ∃ e, 0 ≤ e ∧ e < F 17 0 ∧ F 19 e = w ∧ F 20 e = 0
theorem m_hasOpen {g : jG} {l : Launch} {x : Nat} {AD : Nat → Nat} {F : mF} (hnt : l.stackTraces = false) (hD : mD x AD) (w : Int) (hI : mI F) (hw : zR w) : mMi g l x AD yX3_hasOpen (ws_ yX3_hasOpen cX3_hasOpen 4 (some .boolean)) (jr 0 0 0) [.ref x, .int (zI (w))] F (fun r F' => ((r = 1 ∧ opn F w) ∨ (r = 0 ∧ ¬ opn F w)) ∧ F' = F) := by
  refine mM_of (L0 := [some (.ref x), some (.int (zI (w))), none, none]) hnt (by decide +kernel) rfl (Nat.le_of_ble_eq_true rfl) rfl rfl ?_
  intro Θ hΘ p e s m args below meth c A Q hC hQ
  have hne := mI_ne hI
  have hnw := mI_nw hI
  have loop : ∀ (n : Nat) (k h0 : Int), 0 ≤ k → k ≤ F 17 0 → F 17 0 - k < n → ((h0 = 1 ∧ opn F w) ∨ (h0 = 0 ∧ ∀ e, 0 ≤ e → e < k → ¬ (F 19 e = w ∧ F 20 e = 0))) → J p l e (jr 0 0 0) s m args below meth c A Q (mP g x AD Θ (F) A) 0 0 4 [some (.ref x), some (.int (zI (w))), some (.int (zI (h0))), some (.int (zI (k)))] [] := by
    intro n
    induction n with
    | zero => intro k h0 h1 h2 h3; omega
    | succ n ih =>
      intro k h0 h1 h2 h3 hh
      refine J_iload_n hC dX3_hasOpen_4 rfl ?_
      refine J_aload_n hC dX3_hasOpen_5 rfl ?_
      refine Jm_get hC 17 (by decide) q938 rfl rfl dX3_hasOpen_6 ?_
      refine J_icmp_ge (tgt := 47) hC (by first | with_reducible assumption | exact zR_mk (by omega) (by omega)) (by first | with_reducible assumption | exact zR_mk (by omega) (by omega)) dX3_hasOpen_9 rfl (fun c9 => ?_) (fun c9 => ?_)
      · refine J_iload_n hC dX3_hasOpen_47 rfl ?_
        refine Jm_zret hC hQ (by omega) ⟨_, rfl, ?_⟩ dX3_hasOpen_48
        refine ⟨?_, rfl⟩
        rcases hh with z | ⟨z1, z2⟩
        · exact Or.inl z
        · exact Or.inr ⟨z1, fun ⟨e, e1, e2, e3, e4⟩ => z2 e e1 (by omega) ⟨e3, e4⟩⟩
      · have he := mI_err hI h1 (by omega)
        have yes : opn F w → J p l e (jr 0 0 0) s m args below meth c A Q (mP g x AD Θ (F) A) 0 0 35 [some (.ref x), some (.int (zI (w))), some (.int (zI (h0))), some (.int (zI (k)))] [] := by
          intro ho
          refine J_iconst hC dX3_hasOpen_35 ?_
          refine J_goto (tgt := 40) hC dX3_hasOpen_36 rfl ?_
          refine J_istore_n (i := 2) hC dX3_hasOpen_40 rfl (Nat.le_of_ble_eq_true rfl) ?_
          refine J_iinc hC dX3_hasOpen_41 rfl (Nat.le_of_ble_eq_true rfl) ?_
          refine J_goto (tgt := 4) hC dX3_hasOpen_44 rfl ?_
          exact ih (k + 1) 1 (by omega) (by omega) (by omega) (Or.inl ⟨rfl, ho⟩)
        have no : h0 = 0 → ¬ (F 19 k = w ∧ F 20 k = 0) → J p l e (jr 0 0 0) s m args below meth c A Q (mP g x AD Θ (F) A) 0 0 39 [some (.ref x), some (.int (zI (w))), some (.int (zI (h0))), some (.int (zI (k)))] [] := by
          intro e0 hn
          refine J_iconst hC dX3_hasOpen_39 ?_
          refine J_istore_n (i := 2) hC dX3_hasOpen_40 rfl (Nat.le_of_ble_eq_true rfl) ?_
          refine J_iinc hC dX3_hasOpen_41 rfl (Nat.le_of_ble_eq_true rfl) ?_
          refine J_goto (tgt := 4) hC dX3_hasOpen_44 rfl ?_
          refine ih (k + 1) 0 (by omega) (by omega) (by omega) (Or.inr ⟨rfl, fun e e1 e2 => ?_⟩)
          by_cases hek : e = k
          · rw [hek]; exact hn
          · rcases hh with z | ⟨z1, z2⟩
            · omega
            · exact z2 e e1 (by omega)
        refine J_iload_n hC dX3_hasOpen_12 rfl ?_
        refine J_if_ne (tgt := 35) hC (by first | with_reducible assumption | exact zR_mk (by omega) (by omega)) dX3_hasOpen_13 rfl (fun c13 => ?_) (fun c13 => ?_)
        · exact yes (by rcases hh with z | z; exact z.2; omega)
        · refine J_aload_n hC dX3_hasOpen_16 rfl ?_
          refine Jm_get hC 19 (by decide) q940 rfl rfl dX3_hasOpen_17 ?_
          refine J_iload_n hC dX3_hasOpen_20 rfl ?_
          refine Jm_iald hC 19 (n := 30) rfl rfl (by decide) rfl (by omega) (by omega) dX3_hasOpen_21 ?_
          refine J_iload_n hC dX3_hasOpen_22 rfl ?_
          refine J_icmp_ne (tgt := 39) hC (by first | with_reducible assumption | exact zR_mk (by omega) (by omega)) (by first | with_reducible assumption | exact zR_mk (by omega) (by omega)) dX3_hasOpen_23 rfl (fun c23 => ?_) (fun c23 => ?_)
          · exact no (by omega) (fun z => c23 z.1)
          · refine J_aload_n hC dX3_hasOpen_26 rfl ?_
            refine Jm_get hC 20 (by decide) q941 rfl rfl dX3_hasOpen_27 ?_
            refine J_iload_n hC dX3_hasOpen_30 rfl ?_
            refine Jm_iald hC 20 (n := 30) rfl rfl (by decide) rfl (by omega) (by omega) dX3_hasOpen_31 ?_
            refine J_if_ne (tgt := 39) hC (by first | with_reducible assumption | exact zR_mk (by omega) (by omega)) dX3_hasOpen_32 rfl (fun c32 => ?_) (fun c32 => ?_)
            · exact no (by omega) (fun z => c32 z.2)
            · exact yes ⟨k, h1, by omega, c23, c32⟩
  refine J_iconst hC dX3_hasOpen_0 ?_
  refine J_istore_n (i := 2) hC dX3_hasOpen_1 rfl (Nat.le_of_ble_eq_true rfl) ?_
  refine J_iconst hC dX3_hasOpen_2 ?_
  refine J_istore_n (i := 3) hC dX3_hasOpen_3 rfl (Nat.le_of_ble_eq_true rfl) ?_
  exact loop (F 17 0 + 1).toNat 0 0 (Int.le_refl _) hne.1 (by omega) (Or.inr ⟨rfl, fun e e1 e2 => by omega⟩)
def repF (F : mF) (a b : Int) : mF := upF (upF (upF (upF (upF F 0 0 0) 18 (F 17 0) a) 19 (F 17 0) b) 20 (F 17 0) 0) 17 0 (F 17 0 + 1)
theorem m_report {g : jG} {l : Launch} {x : Nat} {AD : Nat → Nat} {F : mF} (hnt : l.stackTraces = false) (hD : mD x AD) (a b : Int) (hI : mI F) (ha : zR a) (hb : zR b) : mMi g l x AD yX3_report (ws_ yX3_report cX3_report 4 (some .int)) (jr 2 0 0) [.ref x, .int (zI (a)), .int (zI (b))] F (fun r F' => (F' = upF F 0 0 1 ∧ ¬ ((0 ≤ a ∧ a ≤ 4) ∧ 0 ≤ b ∧ b < F 7 0)) ∨ (F' = upF F 0 0 2 ∧ ((0 ≤ a ∧ a ≤ 4) ∧ 0 ≤ b ∧ b < F 7 0) ∧ (opn F b ∨ F 17 0 = 30)) ∨ (((0 ≤ a ∧ a ≤ 4) ∧ 0 ≤ b ∧ b < F 7 0) ∧ ¬ opn F b ∧ F 17 0 < 30 ∧ F' = repF F a b ∧ r = F 17 0)) := by
  refine mM_of (L0 := [some (.ref x), some (.int (zI (a))), some (.int (zI (b))), none]) hnt (by decide +kernel) rfl (Nat.le_of_ble_eq_true rfl) rfl rfl ?_
  intro Θ hΘ p e s m args below meth c A Q hC hQ
  have hne := mI_ne hI
  have hnw := mI_nw hI
  have h54 : ∀ th av : Int, 0 ≤ th → th ≤ 2 → ((th = 1 ∧ ¬ ((0 ≤ a ∧ a ≤ 4) ∧ 0 ≤ b ∧ b < F 7 0)) ∨ (th = 2 ∧ ((0 ≤ a ∧ a ≤ 4) ∧ 0 ≤ b ∧ b < F 7 0) ∧ (opn F b ∨ F 17 0 = 30)) ∨ (th = 0 ∧ ((0 ≤ a ∧ a ≤ 4) ∧ 0 ≤ b ∧ b < F 7 0) ∧ ¬ opn F b ∧ F 17 0 < 30)) → J p l e (jr 2 0 0) s m args below meth c A Q (mP g x AD Θ (F) A) 0 0 54 [some (.ref x), some (.int (zI (a))), some (.int (zI (b))), some (.int (zI (av)))] [.int (zI th), .ref x] := by
    intro th av t1 t2 hth
    refine Jm_callVi (n := 1) hC hΘ (m_holds hnt hD th (zR_mk (by omega) (by omega))) (lw_V q994 q996 qs16 q61 q997) ⟨rfl, by decide +kernel⟩ ⟨(Nat.le_of_ble_eq_true rfl), (Nat.le_of_ble_eq_true rfl)⟩ rfl rfl rfl rfl (Nat.le_of_ble_eq_true rfl) dX3_report_54 ?_
    intro r2 F9 hr9
    obtain ⟨hr2, e9⟩ := hr9
    rw [e9]
    refine J_if_ne (tgt := 62) hC (by first | with_reducible assumption | exact zR_mk (by omega) (by omega)) dX3_report_57 rfl (fun c57 => ?_) (fun c57 => ?_)
    · have e : th = 0 := by omega
      subst e
      rcases hth with z | z | ⟨-, z1, z2, z3⟩
      · omega
      · omega
      · refine J_aload_n hC dX3_report_62 rfl ?_
        refine Jm_get hC 18 (by decide) q939 rfl rfl dX3_report_63 ?_
        refine J_aload_n hC dX3_report_66 rfl ?_
        refine Jm_gets hC 17 (v := F 17 0) rfl rfl q938 rfl dX3_report_67 ?_
        refine J_iload_n hC dX3_report_70 rfl ?_
        refine Jm_iast hC hD hΘ 18 (n := 30) rfl (by decide) rfl (by omega) (by omega) dX3_report_71 ?_
        refine J_aload_n hC dX3_report_72 rfl ?_
        refine Jm_get hC 19 (by decide) q940 rfl rfl dX3_report_73 ?_
        refine J_aload_n hC dX3_report_76 rfl ?_
        refine Jm_gets hC 17 (v := F 17 0) rfl rfl q938 rfl dX3_report_77 ?_
        refine J_iload_n hC dX3_report_80 rfl ?_
        refine Jm_iast hC hD hΘ 19 (n := 30) rfl (by decide) rfl (by omega) (by omega) dX3_report_81 ?_
        refine J_aload_n hC dX3_report_82 rfl ?_
        refine Jm_get hC 20 (by decide) q941 rfl rfl dX3_report_83 ?_
        refine J_aload_n hC dX3_report_86 rfl ?_
        refine Jm_gets hC 17 (v := F 17 0) rfl rfl q938 rfl dX3_report_87 ?_
        refine J_iconst hC dX3_report_90 ?_
        refine Jm_iast hC hD hΘ 20 (n := 30) rfl (by decide) rfl (by omega) (by omega) dX3_report_91 ?_
        refine J_aload_n hC dX3_report_92 rfl ?_
        refine J_dup hC dX3_report_93 rfl ?_
        refine Jm_gets hC 17 (v := F 17 0) rfl rfl q938 rfl dX3_report_94 ?_
        refine J_iconst hC dX3_report_97 ?_
        refine J_iadd hC dX3_report_98 ?_
        refine Jm_put hC hD hΘ 17 rfl q938 rfl (by decide) dX3_report_99 ?_
        refine J_aload_n hC dX3_report_102 rfl ?_
        refine Jm_get hC 17 (by decide) q938 rfl rfl dX3_report_103 ?_
        refine J_iconst hC dX3_report_106 ?_
        refine J_isub hC dX3_report_107 ?_
        refine Jm_iret hC hQ  ⟨_, rfl, ?_⟩ dX3_report_108
        refine Or.inr (Or.inr ⟨z1, z2, z3, rfl, ?_⟩)
        show F 17 0 + 1 - 1 = F 17 0
        omega
    · refine J_iconst hC dX3_report_60 ?_
      refine Jm_iret hC hQ  ⟨_, rfl, ?_⟩ dX3_report_61
      rcases hth with ⟨z0, z⟩ | ⟨z0, z⟩ | ⟨z0, z⟩
      · subst z0; exact Or.inl ⟨rfl, z⟩
      · subst z0; exact Or.inr (Or.inl ⟨rfl, z⟩)
      · omega
  have h22 : ∀ av : Int, (av = 1 ∧ ((0 ≤ a ∧ a ≤ 4) ∧ 0 ≤ b ∧ b < F 7 0) ∨ av = 0 ∧ ¬ ((0 ≤ a ∧ a ≤ 4) ∧ 0 ≤ b ∧ b < F 7 0)) → J p l e (jr 2 0 0) s m args below meth c A Q (mP g x AD Θ (F) A) 0 0 22 [some (.ref x), some (.int (zI (a))), some (.int (zI (b))), none] [.int (zI av)] := by
    intro av hav
    refine J_istore_n (i := 3) hC dX3_report_22 rfl (Nat.le_of_ble_eq_true rfl) ?_
    refine J_aload_n hC dX3_report_23 rfl ?_
    refine J_iload_n hC dX3_report_24 rfl ?_
    refine J_if_ne (tgt := 32) hC (by first | with_reducible assumption | exact zR_mk (by omega) (by omega)) dX3_report_25 rfl (fun c25 => ?_) (fun c25 => ?_)
    · have hv : (0 ≤ a ∧ a ≤ 4) ∧ 0 ≤ b ∧ b < F 7 0 := by omega
      refine J_aload_n hC dX3_report_32 rfl ?_
      refine J_iload_n hC dX3_report_33 rfl ?_
      refine Jm_callVi (n := 1) hC hΘ (m_hasOpen hnt hD b hI hb) (lw_V q1138 q1140 qs37 q61 q1141) ⟨rfl, by decide +kernel⟩ ⟨(Nat.le_of_ble_eq_true rfl), (Nat.le_of_ble_eq_true rfl)⟩ rfl rfl rfl rfl (Nat.le_of_ble_eq_true rfl) dX3_report_34 ?_
      intro r1 F9 hr9
      obtain ⟨hr1, e9⟩ := hr9
      rw [e9]
      refine J_if_ne (tgt := 49) hC (by first | with_reducible assumption | exact zR_mk (by omega) (by omega)) dX3_report_37 rfl (fun c37 => ?_) (fun c37 => ?_)
      · refine J_iconst hC dX3_report_49 ?_
        refine J_goto (tgt := 54) hC dX3_report_50 rfl ?_
        refine h54 2 av (by omega) (by omega) (Or.inr (Or.inl ⟨rfl, hv, Or.inl ?_⟩))
        rcases hr1 with z | z
        · exact z.2
        · omega
      · have hno : ¬ opn F b := by rcases hr1 with z | z; omega; exact z.2
        refine J_aload_n hC dX3_report_40 rfl ?_
        refine Jm_get hC 17 (by decide) q938 rfl rfl dX3_report_41 ?_
        refine J_bipush hC dX3_report_44 (by decide) ?_
        refine J_icmp_ne (tgt := 53) hC (by first | with_reducible assumption | exact zR_mk (by omega) (by omega)) (by first | with_reducible assumption | exact zR_mk (by omega) (by omega)) dX3_report_46 rfl (fun c46 => ?_) (fun c46 => ?_)
        · refine J_iconst hC dX3_report_53 ?_
          exact h54 0 av (by omega) (by omega) (Or.inr (Or.inr ⟨rfl, hv, hno, by omega⟩))
        · refine J_iconst hC dX3_report_49 ?_
          refine J_goto (tgt := 54) hC dX3_report_50 rfl ?_
          exact h54 2 av (by omega) (by omega) (Or.inr (Or.inl ⟨rfl, hv, Or.inr c46⟩))
    · refine J_iconst hC dX3_report_28 ?_
      refine J_goto (tgt := 54) hC dX3_report_29 rfl ?_
      exact h54 1 av (by omega) (by omega) (Or.inl ⟨rfl, by omega⟩)
  refine J_iload_n hC dX3_report_0 rfl ?_
  refine J_iconst hC dX3_report_1 ?_
  refine J_iconst hC dX3_report_2 ?_
  refine Jm_isIn hC (lw_S q1006 q1007 q61 q1008) ⟨(Nat.le_of_ble_eq_true rfl), (Nat.le_of_ble_eq_true rfl)⟩ (by first | with_reducible assumption | exact zR_mk (by omega) (by omega)) (by first | with_reducible assumption | exact zR_mk (by omega) (by omega)) (by first | with_reducible assumption | exact zR_mk (by omega) (by omega)) rfl (Nat.le_of_ble_eq_true rfl) dX3_report_3 (fun b3 hb3 => ?_)
  refine J_if_eq (tgt := 21) hC (by first | with_reducible assumption | exact zR_mk (by omega) (by omega)) dX3_report_6 rfl (fun c6 => ?_) (fun c6 => ?_)
  · refine J_iconst hC dX3_report_21 ?_
    exact h22 0 (Or.inr ⟨rfl, by omega⟩)
  · refine J_aload_n hC dX3_report_9 rfl ?_
    refine J_iload_n hC dX3_report_10 rfl ?_
    refine Jm_callVi (n := 1) hC hΘ (m_isWord hnt hD b hb hnw) (lw_V q1013 q1015 qs18 q61 q1016) ⟨rfl, by decide +kernel⟩ ⟨(Nat.le_of_ble_eq_true rfl), (Nat.le_of_ble_eq_true rfl)⟩ rfl rfl rfl rfl (Nat.le_of_ble_eq_true rfl) dX3_report_11 ?_
    intro r1 F9 hr9
    obtain ⟨hr1, e9⟩ := hr9
    rw [e9]
    refine J_if_eq (tgt := 21) hC (by first | with_reducible assumption | exact zR_mk (by omega) (by omega)) dX3_report_14 rfl (fun c14 => ?_) (fun c14 => ?_)
    · refine J_iconst hC dX3_report_21 ?_
      exact h22 0 (Or.inr ⟨rfl, by omega⟩)
    · refine J_iconst hC dX3_report_17 ?_
      refine J_goto (tgt := 22) hC dX3_report_18 rfl ?_
      exact h22 1 (Or.inl ⟨rfl, by omega⟩)
/-- what an error brings a reader -/
def ptE (F : mF) (rd e : Int) : Int := if F 18 e = rd then (if F 20 e = 1 then 3 else if F 20 e = 0 then 0 else -1) else 0
def ptS (F : mF) (rd : Int) : Int := sI (ptE F rd) (F 17 0)
theorem ptS_bd {F : mF} (hI : mI F) (rd : Int) : -30 ≤ ptS F rd ∧ ptS F rd ≤ 90 := by
  have hne := mI_ne hI
  have h0 : ∀ e, -1 ≤ ptE F rd e ∧ ptE F rd e ≤ 3 := fun e => by
    unfold ptE
    split
    · split
      · omega
      · split <;> omega
    · omega
  have h1 := sI_step (f := ptE F rd) (a := 0) (b := F 17 0) (c := -1) (Int.le_refl _) hne.1 (fun j _ _ => (h0 j).1)
  have h2 := sI_upper (f := ptE F rd) (b := F 17 0) (c := 3) hne.1 (fun j _ _ => (h0 j).2)
  rw [sI_0] at h1
  unfold ptS
  omega
theorem m_points {g : jG} {l : Launch} {x : Nat} {AD : Nat → Nat} {F : mF} (hnt : l.stackTraces = false) (hD : mD x AD) (rd : Int) (hI : mI F) (hrd : zR rd) : mMi g l x AD yX3_points (ws_ yX3_points cX3_points 5 (some .int)) (jr 0 0 0) [.ref x, .int (zI (rd))] F (fun r F' => r = ptS F rd ∧ F' = F) := by
  refine mM_of (L0 := [some (.ref x), some (.int (zI (rd))), none, none, none]) hnt (by decide +kernel) rfl (Nat.le_of_ble_eq_true rfl) rfl rfl ?_
  intro Θ hΘ p e s m args below meth c A Q hC hQ
  have hne := mI_ne hI
  have loop : ∀ (n : Nat) (k s0 v4 : Int), 0 ≤ k → k ≤ F 17 0 → F 17 0 - k < n → s0 = sI (ptE F rd) k → J p l e (jr 0 0 0) s m args below meth c A Q (mP g x AD Θ (F) A) 0 0 4 [some (.ref x), some (.int (zI (rd))), some (.int (zI (s0))), some (.int (zI (k))), none] [] := by
    intro n
    induction n with
    | zero => intro k s0 v4 h1 h2 h3; omega
    | succ n ih =>
      intro k s0 v4 h1 h2 h3 hs
      have hsu := sI_succ (ptE F rd) h1
      refine J_iload_n hC dX3_points_4 rfl ?_
      refine J_aload_n hC dX3_points_5 rfl ?_
      refine Jm_get hC 17 (by decide) q938 rfl rfl dX3_points_6 ?_
      refine J_icmp_ge (tgt := 71) hC (by first | with_reducible assumption | exact zR_mk (by omega) (by omega)) (by first | with_reducible assumption | exact zR_mk (by omega) (by omega)) dX3_points_9 rfl (fun c9 => ?_) (fun c9 => ?_)
      · refine J_iload_n hC dX3_points_71 rfl ?_
        refine Jm_iret hC hQ  ⟨_, rfl, ?_⟩ dX3_points_72
        refine ⟨?_, rfl⟩
        unfold ptS
        rw [hs, show k = F 17 0 by omega]
      · have he := mI_err hI h1 (by omega)
        have fin : ∀ v is : Int, v = ptE F rd k → J p l e (jr 0 0 0) s m args below meth c A Q (mP g x AD Θ (F) A) 0 0 63 [some (.ref x), some (.int (zI (rd))), some (.int (zI (s0))), some (.int (zI (k))), some (.int (zI (is)))] [.int (zI v), .int (zI s0)] := by
          intro v is hv
          refine J_iadd hC dX3_points_63 ?_
          refine J_istore_n (i := 2) hC dX3_points_64 rfl (Nat.le_of_ble_eq_true rfl) ?_
          refine J_iinc hC dX3_points_65 rfl (Nat.le_of_ble_eq_true rfl) ?_
          refine J_goto (tgt := 4) hC dX3_points_68 rfl ?_
          refine J_forget (L' := [some (.ref x), some (.int (zI (rd))), some (.int (zI (s0 + v))), some (.int (zI (k + 1))), none]) (by simp [jle]) ?_
          exact ih (k + 1) (s0 + v) 0 (by omega) (by omega) (by omega) (by rw [hsu, hs, hv])
        refine J_aload_n hC dX3_points_12 rfl ?_
        refine Jm_get hC 18 (by decide) q939 rfl rfl dX3_points_13 ?_
        refine J_iload_n hC dX3_points_16 rfl ?_
        refine Jm_iald hC 18 (n := 30) rfl rfl (by decide) rfl (by omega) (by omega) dX3_points_17 ?_
        refine J_iload_n hC dX3_points_18 rfl ?_
        refine J_icmp_ne (tgt := 26) hC (by first | with_reducible assumption | exact zR_mk (by omega) (by omega)) (by first | with_reducible assumption | exact zR_mk (by omega) (by omega)) dX3_points_19 rfl (fun c19 => ?_) (fun c19 => ?_)
        · refine J_iconst hC dX3_points_26 ?_
          refine J_istore hC dX3_points_27 (Nat.le_of_ble_eq_true rfl) ?_
          refine J_iload_n hC dX3_points_29 rfl ?_
          refine J_iload hC dX3_points_30 rfl ?_
          refine J_if_eq (tgt := 44) hC (by first | with_reducible assumption | exact zR_mk (by omega) (by omega)) dX3_points_32 rfl (fun c32 => ?_) (fun c32 => ?_)
          · refine J_iconst hC dX3_points_44 ?_
            refine J_goto (tgt := 63) hC dX3_points_45 rfl ?_
            exact fin 0 0 (by unfold ptE; rw [if_neg c19])
          · omega
        · refine J_iconst hC dX3_points_22 ?_
          refine J_goto (tgt := 27) hC dX3_points_23 rfl ?_
          refine J_istore hC dX3_points_27 (Nat.le_of_ble_eq_true rfl) ?_
          refine J_iload_n hC dX3_points_29 rfl ?_
          refine J_iload hC dX3_points_30 rfl ?_
          refine J_if_eq (tgt := 44) hC (by first | with_reducible assumption | exact zR_mk (by omega) (by omega)) dX3_points_32 rfl (fun c32 => ?_) (fun c32 => ?_)
          · omega
          · refine J_aload_n hC dX3_points_35 rfl ?_
            refine Jm_get hC 20 (by decide) q941 rfl rfl dX3_points_36 ?_
            refine J_iload_n hC dX3_points_39 rfl ?_
            refine Jm_iald hC 20 (n := 30) rfl rfl (by decide) rfl (by omega) (by omega) dX3_points_40 ?_
            refine J_if_ne (tgt := 48) hC (by first | with_reducible assumption | exact zR_mk (by omega) (by omega)) dX3_points_41 rfl (fun c41 => ?_) (fun c41 => ?_)
            · refine J_aload_n hC dX3_points_48 rfl ?_
              refine Jm_get hC 20 (by decide) q941 rfl rfl dX3_points_49 ?_
              refine J_iload_n hC dX3_points_52 rfl ?_
              refine Jm_iald hC 20 (n := 30) rfl rfl (by decide) rfl (by omega) (by omega) dX3_points_53 ?_
              refine J_iconst hC dX3_points_54 ?_
              refine J_icmp_ne (tgt := 62) hC (by first | with_reducible assumption | exact zR_mk (by omega) (by omega)) (by first | with_reducible assumption | exact zR_mk (by omega) (by omega)) dX3_points_55 rfl (fun c55 => ?_) (fun c55 => ?_)
              · refine J_iconst hC dX3_points_62 ?_
                exact fin (-1) 1 (by unfold ptE; rw [if_pos c19, if_neg c55, if_neg c41])
              · refine J_iconst hC dX3_points_58 ?_
                refine J_goto (tgt := 63) hC dX3_points_59 rfl ?_
                exact fin 3 1 (by unfold ptE; rw [if_pos c19, if_pos c55])
            · refine J_iconst hC dX3_points_44 ?_
              refine J_goto (tgt := 63) hC dX3_points_45 rfl ?_
              exact fin 0 1 (by unfold ptE; rw [if_pos c19, if_neg (by omega), if_pos (by omega)])
  refine J_iconst hC dX3_points_0 ?_
  refine J_istore_n (i := 2) hC dX3_points_1 rfl (Nat.le_of_ble_eq_true rfl) ?_
  refine J_iconst hC dX3_points_2 ?_
  refine J_istore_n (i := 3) hC dX3_points_3 rfl (Nat.le_of_ble_eq_true rfl) ?_
  exact loop (F 17 0 + 1).toNat 0 0 0 (Int.le_refl _) hne.1 (by omega) rfl
theorem m_judge {g : jG} {l : Launch} {x : Nat} {AD : Nat → Nat} {F : mF} (hnt : l.stackTraces = false) (hD : mD x AD) (a b : Int) (hI : mI F) (ha : zR a) (hb : b = 0 ∨ b = 1) : mMi g l x AD yX3_judge (ws_ yX3_judge cX3_judge 4 (some .int)) (jr 2 0 0) [.ref x, .int (zI (a)), .int (zI (b))] F (fun r F' => (F' = upF F 0 0 1 ∧ ¬ (0 ≤ a ∧ a < F 17 0)) ∨ (F' = upF F 0 0 2 ∧ (0 ≤ a ∧ a < F 17 0) ∧ ¬ F 20 a = 0) ∨ ((0 ≤ a ∧ a < F 17 0) ∧ F 20 a = 0 ∧ F' = upF (upF F 0 0 0) 20 a (if b = 0 then 2 else 1) ∧ r = ptS F' (F 18 a))) := by
  refine mM_of (L0 := [some (.ref x), some (.int (zI (a))), some (.int (zI (b))), none]) hnt (by decide +kernel) rfl (Nat.le_of_ble_eq_true rfl) rfl rfl ?_
  intro Θ hΘ p e s m args below meth c A Q hC hQ
  have hne := mI_ne hI
  refine J_aload_n hC dX3_judge_0 rfl ?_
  refine J_iload_n hC dX3_judge_1 rfl ?_
  refine Jm_callVi (n := 1) hC hΘ (m_isError hnt hD a ha hne) (lw_V q1146 q1148 qs38 q61 q1149) ⟨rfl, by decide +kernel⟩ ⟨(Nat.le_of_ble_eq_true rfl), (Nat.le_of_ble_eq_true rfl)⟩ rfl rfl rfl rfl (Nat.le_of_ble_eq_true rfl) dX3_judge_2 ?_
  intro ie F9 hr9
  obtain ⟨hr1, e9⟩ := hr9
  rw [e9]
  refine J_istore_n (i := 3) hC dX3_judge_5 rfl (Nat.le_of_ble_eq_true rfl) ?_
  refine J_aload_n hC dX3_judge_6 rfl ?_
  refine J_iload_n hC dX3_judge_7 rfl ?_
  refine J_if_ne (tgt := 15) hC (by first | with_reducible assumption | exact zR_mk (by omega) (by omega)) dX3_judge_8 rfl (fun c8 => ?_) (fun c8 => ?_)
  · have he := mI_err hI (e := a) (by omega) (by omega)
    refine J_aload_n hC dX3_judge_15 rfl ?_
    refine Jm_get hC 20 (by decide) q941 rfl rfl dX3_judge_16 ?_
    refine J_iload_n hC dX3_judge_19 rfl ?_
    refine Jm_iald hC 20 (n := 30) rfl rfl (by decide) rfl (by omega) (by omega) dX3_judge_20 ?_
    refine J_if_ne (tgt := 28) hC (by first | with_reducible assumption | exact zR_mk (by omega) (by omega)) dX3_judge_21 rfl (fun c21 => ?_) (fun c21 => ?_)
    · refine J_iconst hC dX3_judge_28 ?_
      refine Jm_callVi (n := 1) hC hΘ (m_holds hnt hD 2 (zR_mk (by omega) (by omega))) (lw_V q994 q996 qs16 q61 q997) ⟨rfl, by decide +kernel⟩ ⟨(Nat.le_of_ble_eq_true rfl), (Nat.le_of_ble_eq_true rfl)⟩ rfl rfl rfl rfl (Nat.le_of_ble_eq_true rfl) dX3_judge_29 ?_
      intro r2 F9 hr9
      obtain ⟨hr2, e9⟩ := hr9
      rw [e9]
      refine J_if_ne (tgt := 37) hC (by first | with_reducible assumption | exact zR_mk (by omega) (by omega)) dX3_judge_32 rfl (fun c32 => ?_) (fun c32 => ?_)
      · omega
      · refine J_iconst hC dX3_judge_35 ?_
        refine Jm_iret hC hQ  ⟨_, rfl, ?_⟩ dX3_judge_36
        exact Or.inr (Or.inl ⟨rfl, by omega, c21⟩)
    · refine J_iconst hC dX3_judge_24 ?_
      refine J_goto (tgt := 29) hC dX3_judge_25 rfl ?_
      refine Jm_callVi (n := 1) hC hΘ (m_holds hnt hD 0 (zR_mk (by omega) (by omega))) (lw_V q994 q996 qs16 q61 q997) ⟨rfl, by decide +kernel⟩ ⟨(Nat.le_of_ble_eq_true rfl), (Nat.le_of_ble_eq_true rfl)⟩ rfl rfl rfl rfl (Nat.le_of_ble_eq_true rfl) dX3_judge_29 ?_
      intro r2 F9 hr9
      obtain ⟨hr2, e9⟩ := hr9
      rw [e9]
      refine J_if_ne (tgt := 37) hC (by first | with_reducible assumption | exact zR_mk (by omega) (by omega)) dX3_judge_32 rfl (fun c32 => ?_) (fun c32 => ?_)
      · have h51 : ∀ v : Int, v = (if b = 0 then 2 else 1) → J p l e (jr 2 0 0) s m args below meth c A Q (mP g x AD Θ (upF F 0 0 0) A) 0 0 51 [some (.ref x), some (.int (zI (a))), some (.int (zI (b))), some (.int (zI (ie)))] [.int (zI v), .int (zI a), .ref (AD 20)] := by
          intro v hv
          have hv2 : 0 ≤ v ∧ v ≤ 2 := by rw [hv]; split <;> omega
          have hI2 : mI (upF (upF F 0 0 0) 20 a v) := by
            have hI1 := scr_mI (scr_th 0 (mI_B hI)) hI
            refine ⟨hI1.1, hI1.2.1, hI1.2.2.1, hI1.2.2.2.1, hI1.2.2.2.2.1, hI1.2.2.2.2.2.1, hI1.2.2.2.2.2.2.1, hI1.2.2.2.2.2.2.2.1, hI1.2.2.2.2.2.2.2.2.1, hI1.2.2.2.2.2.2.2.2.2.1, hI1.2.2.2.2.2.2.2.2.2.2.1, fun e e1 e2 => ?_⟩
            have h9 := mI_err hI e1 e2
            refine ⟨h9.1, h9.2.1, h9.2.2.1, h9.2.2.2.1, ?_⟩
            by_cases hea : e = a
            · rw [hea, upF_self]; exact hv2
            · rw [upF_j _ _ _ hea]; exact h9.2.2.2.2
          refine Jm_iast hC hD hΘ 20 (n := 30) rfl (by decide) rfl (by omega) (by omega) dX3_judge_51 ?_
          refine J_aload_n hC dX3_judge_52 rfl ?_
          refine J_aload_n hC dX3_judge_53 rfl ?_
          refine Jm_get hC 18 (by decide) q939 rfl rfl dX3_judge_54 ?_
          refine J_iload_n hC dX3_judge_57 rfl ?_
          refine Jm_iald hC 18 (n := 30) (v := F 18 a) rfl rfl (by decide) rfl (by omega) (by omega) dX3_judge_58 ?_
          refine Jm_callVi (n := 1) hC hΘ (m_points hnt hD (F 18 a) hI2 (zR_mk (by omega) (by omega))) (lw_V q1150 q1152 qs39 q61 q1153) ⟨rfl, by decide +kernel⟩ ⟨(Nat.le_of_ble_eq_true rfl), (Nat.le_of_ble_eq_true rfl)⟩ rfl rfl rfl rfl (Nat.le_of_ble_eq_true rfl) dX3_judge_59 ?_
          intro r F9 hr9
          obtain ⟨er9, e9⟩ := hr9
          rw [e9, er9]
          refine Jm_iret hC hQ  ⟨_, rfl, ?_⟩ dX3_judge_62
          exact Or.inr (Or.inr ⟨by omega, c21, by rw [hv], rfl⟩)
        refine J_aload_n hC dX3_judge_37 rfl ?_
        refine Jm_get hC 20 (by decide) q941 rfl rfl dX3_judge_38 ?_
        refine J_iload_n hC dX3_judge_41 rfl ?_
        refine J_iload_n hC dX3_judge_42 rfl ?_
        refine J_if_eq (tgt := 50) hC (by first | with_reducible assumption | exact zR_mk (by omega) (by omega)) dX3_judge_43 rfl (fun c43 => ?_) (fun c43 => ?_)
        · refine J_iconst hC dX3_judge_50 ?_
          exact h51 2 (by rw [if_pos c43])
        · refine J_iconst hC dX3_judge_46 ?_
          refine J_goto (tgt := 51) hC dX3_judge_47 rfl ?_
          exact h51 1 (by rw [if_neg c43])
      · omega
  · refine J_iconst hC dX3_judge_11 ?_
    refine J_goto (tgt := 29) hC dX3_judge_12 rfl ?_
    refine Jm_callVi (n := 1) hC hΘ (m_holds hnt hD 1 (zR_mk (by omega) (by omega))) (lw_V q994 q996 qs16 q61 q997) ⟨rfl, by decide +kernel⟩ ⟨(Nat.le_of_ble_eq_true rfl), (Nat.le_of_ble_eq_true rfl)⟩ rfl rfl rfl rfl (Nat.le_of_ble_eq_true rfl) dX3_judge_29 ?_
    intro r2 F9 hr9
    obtain ⟨hr2, e9⟩ := hr9
    rw [e9]
    refine J_if_ne (tgt := 37) hC (by first | with_reducible assumption | exact zR_mk (by omega) (by omega)) dX3_judge_32 rfl (fun c32 => ?_) (fun c32 => ?_)
    · omega
    · refine J_iconst hC dX3_judge_35 ?_
      refine Jm_iret hC hQ  ⟨_, rfl, ?_⟩ dX3_judge_36
      exact Or.inl ⟨rfl, by omega⟩
theorem m_errorAt {g : jG} {l : Launch} {x : Nat} {AD : Nat → Nat} {F : mF} (hnt : l.stackTraces = false) (hD : mD x AD) (a : Int) (hI : mI F) (ha : zR a) : mMi g l x AD yX3_errorAt (ws_ yX3_errorAt cX3_errorAt 2 (some .int)) (jr 6 0 0) [.ref x, .int (zI (a))] F (fun r F' => scr F F' ∧ ((F' 0 0 = 1 ∧ ¬ (0 ≤ a ∧ a < F 17 0)) ∨ (F' 0 0 = 0 ∧ (0 ≤ a ∧ a < F 17 0) ∧ WhOf F (F 19 a) r))) := by
  refine mM_of (L0 := [some (.ref x), some (.int (zI (a)))]) hnt (by decide +kernel) rfl (Nat.le_of_ble_eq_true rfl) rfl rfl ?_
  intro Θ hΘ p e s m args below meth c A Q hC hQ
  have hne := mI_ne hI
  refine J_aload_n hC dX3_errorAt_0 rfl ?_
  refine J_aload_n hC dX3_errorAt_1 rfl ?_
  refine J_iload_n hC dX3_errorAt_2 rfl ?_
  refine Jm_callVi (n := 1) hC hΘ (m_isError hnt hD a ha hne) (lw_V q1146 q1148 qs38 q61 q1149) ⟨rfl, by decide +kernel⟩ ⟨(Nat.le_of_ble_eq_true rfl), (Nat.le_of_ble_eq_true rfl)⟩ rfl rfl rfl rfl (Nat.le_of_ble_eq_true rfl) dX3_errorAt_3 ?_
  intro r F9 hr9
  obtain ⟨hr, e9⟩ := hr9
  rw [e9]
  refine J_if_eq (tgt := 13) hC (by first | with_reducible assumption | exact zR_mk (by omega) (by omega)) dX3_errorAt_6 rfl (fun c6 => ?_) (fun c6 => ?_)
  · refine J_iconst hC dX3_errorAt_13 ?_
    refine Jm_callVi (n := 1) hC hΘ (m_holds hnt hD 1 (zR_mk (by omega) (by omega))) (lw_V q994 q996 qs16 q61 q997) ⟨rfl, by decide +kernel⟩ ⟨(Nat.le_of_ble_eq_true rfl), (Nat.le_of_ble_eq_true rfl)⟩ rfl rfl rfl rfl (Nat.le_of_ble_eq_true rfl) dX3_errorAt_14 ?_
    intro r2 F9 hr9
    obtain ⟨hr2, e9⟩ := hr9
    rw [e9]
    refine J_if_eq (tgt := 33) hC (by first | with_reducible assumption | exact zR_mk (by omega) (by omega)) dX3_errorAt_17 rfl (fun c17 => ?_) (fun c17 => ?_)
    · refine J_iconst hC dX3_errorAt_33 ?_
      refine Jm_iret hC hQ  ⟨_, rfl, ?_⟩ dX3_errorAt_34
      exact ⟨scr_th 1 (mI_B hI), Or.inl ⟨upF_self _ _ _ _, by omega⟩⟩
    · omega
  · refine J_iconst hC dX3_errorAt_9 ?_
    refine J_goto (tgt := 14) hC dX3_errorAt_10 rfl ?_
    refine Jm_callVi (n := 1) hC hΘ (m_holds hnt hD 0 (zR_mk (by omega) (by omega))) (lw_V q994 q996 qs16 q61 q997) ⟨rfl, by decide +kernel⟩ ⟨(Nat.le_of_ble_eq_true rfl), (Nat.le_of_ble_eq_true rfl)⟩ rfl rfl rfl rfl (Nat.le_of_ble_eq_true rfl) dX3_errorAt_14 ?_
    intro r2 F9 hr9
    obtain ⟨hr2, e9⟩ := hr9
    rw [e9]
    have hs := scr_th 0 (mI_B hI)
    refine J_if_eq (tgt := 33) hC (by first | with_reducible assumption | exact zR_mk (by omega) (by omega)) dX3_errorAt_17 rfl (fun c17 => ?_) (fun c17 => ?_)
    · omega
    · have he := mI_err hI (e := a) (by omega) (by omega)
      refine J_aload_n hC dX3_errorAt_20 rfl ?_
      refine J_aload_n hC dX3_errorAt_21 rfl ?_
      refine Jm_get hC 19 (by decide) q940 rfl rfl dX3_errorAt_22 ?_
      refine J_iload_n hC dX3_errorAt_25 rfl ?_
      refine Jm_iald hC 19 (n := 30) (v := F 19 a) rfl rfl (by decide) rfl (by omega) (by omega) dX3_errorAt_26 ?_
      refine Jm_callVi (n := 1) hC hΘ (m_whereOf hnt hD (F 19 a) (scr_mI hs hI) (show 0 ≤ F 19 a ∧ F 19 a < F 7 0 by omega)) (lw_V q1130 q1132 qs36 q61 q1133) ⟨rfl, by decide +kernel⟩ ⟨(Nat.le_of_ble_eq_true rfl), (Nat.le_of_ble_eq_true rfl)⟩ rfl rfl rfl rfl (Nat.le_of_ble_eq_true rfl) dX3_errorAt_27 ?_
      intro r3 F9 hr9
      obtain ⟨h1, h2, c, b, m, h3, h4, h5, h6⟩ := hr9
      refine J_goto (tgt := 34) hC dX3_errorAt_30 rfl ?_
      refine Jm_iret hC hQ  ⟨_, rfl, ?_⟩ dX3_errorAt_34
      exact ⟨scr_tr hs h1, Or.inr ⟨by rw [h2]; exact upF_self _ _ _ _, by omega, c, b, m, fun p p1 p2 => by obtain ⟨b, hb⟩ := h3 p p1 p2; exact ⟨b, (LinesOf_scr hs.1).mp hb⟩, (LinesOf_scr hs.1).mp h4, h5, h6⟩⟩
theorem m_stateOf {g : jG} {l : Launch} {x : Nat} {AD : Nat → Nat} {F : mF} (hnt : l.stackTraces = false) (hD : mD x AD) (a : Int) (hI : mI F) (ha : zR a) : mMi g l x AD yX3_stateOf (ws_ yX3_stateOf cX3_stateOf 2 (some .int)) (jr 2 0 0) [.ref x, .int (zI (a))] F (fun r F' => (F' = upF F 0 0 1 ∧ ¬ (0 ≤ a ∧ a < F 17 0)) ∨ (F' = upF F 0 0 0 ∧ (0 ≤ a ∧ a < F 17 0) ∧ r = F 20 a)) := by
  refine mM_of (L0 := [some (.ref x), some (.int (zI (a)))]) hnt (by decide +kernel) rfl (Nat.le_of_ble_eq_true rfl) rfl rfl ?_
  intro Θ hΘ p e s m args below meth c A Q hC hQ
  have hne := mI_ne hI
  refine J_aload_n hC dX3_stateOf_0 rfl ?_
  refine J_aload_n hC dX3_stateOf_1 rfl ?_
  refine J_iload_n hC dX3_stateOf_2 rfl ?_
  refine Jm_callVi (n := 1) hC hΘ (m_isError hnt hD a ha hne) (lw_V q1146 q1148 qs38 q61 q1149) ⟨rfl, by decide +kernel⟩ ⟨(Nat.le_of_ble_eq_true rfl), (Nat.le_of_ble_eq_true rfl)⟩ rfl rfl rfl rfl (Nat.le_of_ble_eq_true rfl) dX3_stateOf_3 ?_
  intro r F9 hr9
  obtain ⟨hr, e9⟩ := hr9
  rw [e9]
  refine J_if_eq (tgt := 13) hC (by first | with_reducible assumption | exact zR_mk (by omega) (by omega)) dX3_stateOf_6 rfl (fun c6 => ?_) (fun c6 => ?_)
  · refine J_iconst hC dX3_stateOf_13 ?_
    refine Jm_callVi (n := 1) hC hΘ (m_holds hnt hD 1 (zR_mk (by omega) (by omega))) (lw_V q994 q996 qs16 q61 q997) ⟨rfl, by decide +kernel⟩ ⟨(Nat.le_of_ble_eq_true rfl), (Nat.le_of_ble_eq_true rfl)⟩ rfl rfl rfl rfl (Nat.le_of_ble_eq_true rfl) dX3_stateOf_14 ?_
    intro r2 F9 hr9
    obtain ⟨hr2, e9⟩ := hr9
    rw [e9]
    refine J_if_eq (tgt := 29) hC (by first | with_reducible assumption | exact zR_mk (by omega) (by omega)) dX3_stateOf_17 rfl (fun c17 => ?_) (fun c17 => ?_)
    · refine J_iconst hC dX3_stateOf_29 ?_
      refine Jm_iret hC hQ  ⟨_, rfl, ?_⟩ dX3_stateOf_30
      exact Or.inl ⟨rfl, by omega⟩
    · omega
  · refine J_iconst hC dX3_stateOf_9 ?_
    refine J_goto (tgt := 14) hC dX3_stateOf_10 rfl ?_
    refine Jm_callVi (n := 1) hC hΘ (m_holds hnt hD 0 (zR_mk (by omega) (by omega))) (lw_V q994 q996 qs16 q61 q997) ⟨rfl, by decide +kernel⟩ ⟨(Nat.le_of_ble_eq_true rfl), (Nat.le_of_ble_eq_true rfl)⟩ rfl rfl rfl rfl (Nat.le_of_ble_eq_true rfl) dX3_stateOf_14 ?_
    intro r2 F9 hr9
    obtain ⟨hr2, e9⟩ := hr9
    rw [e9]
    refine J_if_eq (tgt := 29) hC (by first | with_reducible assumption | exact zR_mk (by omega) (by omega)) dX3_stateOf_17 rfl (fun c17 => ?_) (fun c17 => ?_)
    · omega
    · refine J_aload_n hC dX3_stateOf_20 rfl ?_
      refine Jm_get hC 20 (by decide) q941 rfl rfl dX3_stateOf_21 ?_
      refine J_iload_n hC dX3_stateOf_24 rfl ?_
      refine Jm_iald hC 20 (n := 30) rfl rfl (by decide) rfl (by omega) (by omega) dX3_stateOf_25 ?_
      refine J_goto (tgt := 30) hC dX3_stateOf_26 rfl ?_
      refine Jm_iret hC hQ  ⟨_, rfl, ?_⟩ dX3_stateOf_30
      exact Or.inr ⟨rfl, by omega, rfl⟩
/-- how many readers are ahead of one -/
def ahd (P : Int → Int) (rd o : Int) : Int := if P rd < P o ∨ (P o = P rd ∧ o < rd) then 1 else 0
def rnk (P : Int → Int) (rd : Int) : Int := sI (ahd P rd) 5
theorem rnk_5 (P : Int → Int) (rd : Int) : rnk P rd = ahd P rd 0 + ahd P rd 1 + ahd P rd 2 + ahd P rd 3 + ahd P rd 4 := by
  unfold rnk
  rw [show (5 : Int) = 0 + 1 + 1 + 1 + 1 + 1 from rfl, sI_succ _ (by decide), sI_succ _ (by decide), sI_succ _ (by decide), sI_succ _ (by decide), sI_succ _ (by decide), sI_0]
  simp
theorem ahd_01 (P : Int → Int) (rd o : Int) : 0 ≤ ahd P rd o ∧ ahd P rd o ≤ 1 := by unfold ahd; split <;> omega
theorem rnk_lt {P : Int → Int} {a b : Int} (hb : 0 ≤ b ∧ b < 5) (h : P a < P b ∨ (P b = P a ∧ b < a)) : rnk P b < rnk P a := by
  have key : ∀ o, ahd P b o ≤ ahd P a o := fun o => by unfold ahd; split <;> split <;> omega
  have k0 := key 0
  have k1 := key 1
  have k2 := key 2
  have k3 := key 3
  have k4 := key 4
  have hs : ahd P b b < ahd P a b := by unfold ahd; rw [if_neg (by omega), if_pos h]; omega
  rw [rnk_5, rnk_5]
  rcases (show b = 0 ∨ b = 1 ∨ b = 2 ∨ b = 3 ∨ b = 4 by omega) with e | e | e | e | e <;> subst e <;> omega
theorem rnk_inj {P : Int → Int} {a b : Int} (ha : 0 ≤ a ∧ a < 5) (hb : 0 ≤ b ∧ b < 5) (h : rnk P a = rnk P b) : a = b := by
  rcases (show a = b ∨ (P a < P b ∨ (P b = P a ∧ b < a)) ∨ (P b < P a ∨ (P a = P b ∧ a < b)) by omega) with e | e | e
  · exact e
  · have := rnk_lt hb e
    omega
  · have := rnk_lt ha e
    omega
theorem rnk_bd {P : Int → Int} {a : Int} (ha : 0 ≤ a ∧ a < 5) : 0 ≤ rnk P a ∧ rnk P a ≤ 4 := by
  have hs : ahd P a a = 0 := by unfold ahd; rw [if_neg (by omega)]
  have h0 := ahd_01 P a 0
  have h1 := ahd_01 P a 1
  have h2 := ahd_01 P a 2
  have h3 := ahd_01 P a 3
  have h4 := ahd_01 P a 4
  rw [rnk_5]
  rcases (show a = 0 ∨ a = 1 ∨ a = 2 ∨ a = 3 ∨ a = 4 by omega) with e | e | e | e | e <;> subst e <;> omega
theorem five : ∀ a b c d e t : Fin 5, a ≠ b → a ≠ c → a ≠ d → a ≠ e → b ≠ c → b ≠ d → b ≠ e → c ≠ d → c ≠ e → d ≠ e → a = t ∨ b = t ∨ c = t ∨ d = t ∨ e = t := by decide +kernel
theorem rnk_ex (P : Int → Int) {t : Int} (ht : 0 ≤ t ∧ t ≤ 4) : ∃ a, (0 ≤ a ∧ a < 5) ∧ rnk P a = t := by
  have hb : ∀ a : Int, 0 ≤ a ∧ a < 5 → (rnk P a).toNat < 5 := fun a ha => by have := rnk_bd (P := P) ha; omega
  have ne : ∀ (a b : Int) (ha : 0 ≤ a ∧ a < 5) (hb' : 0 ≤ b ∧ b < 5), a ≠ b → (⟨(rnk P a).toNat, hb a ha⟩ : Fin 5) ≠ ⟨(rnk P b).toNat, hb b hb'⟩ := fun a b ha hb' hne e => by
    have e1 : (rnk P a).toNat = (rnk P b).toNat := by simpa using e
    have h1 := rnk_bd (P := P) ha
    have h2 := rnk_bd (P := P) hb'
    exact hne (rnk_inj (P := P) ha hb' (by omega))
  have z0 : (0 : Int) ≤ 0 ∧ (0 : Int) < 5 := by decide
  have z1 : (0 : Int) ≤ 1 ∧ (1 : Int) < 5 := by decide
  have z2 : (0 : Int) ≤ 2 ∧ (2 : Int) < 5 := by decide
  have z3 : (0 : Int) ≤ 3 ∧ (3 : Int) < 5 := by decide
  have z4 : (0 : Int) ≤ 4 ∧ (4 : Int) < 5 := by decide
  have fin : ∀ (a : Int) (ha : 0 ≤ a ∧ a < 5), (⟨(rnk P a).toNat, hb a ha⟩ : Fin 5) = ⟨t.toNat, by omega⟩ → ∃ a, (0 ≤ a ∧ a < 5) ∧ rnk P a = t := fun a ha e => by
    have e1 : (rnk P a).toNat = t.toNat := by simpa using e
    have h1 := rnk_bd (P := P) ha
    exact ⟨a, ha, by omega⟩
  rcases five _ _ _ _ _ ⟨t.toNat, by omega⟩ (ne 0 1 z0 z1 (by decide)) (ne 0 2 z0 z2 (by decide)) (ne 0 3 z0 z3 (by decide)) (ne 0 4 z0 z4 (by decide)) (ne 1 2 z1 z2 (by decide)) (ne 1 3 z1 z3 (by decide)) (ne 1 4 z1 z4 (by decide)) (ne 2 3 z2 z3 (by decide)) (ne 2 4 z2 z4 (by decide)) (ne 3 4 z3 z4 (by decide)) with e | e | e | e | e
  · exact fin 0 z0 e
  · exact fin 1 z1 e
  · exact fin 2 z2 e
  · exact fin 3 z3 e
  · exact fin 4 z4 e
theorem m_readerAt {g : jG} {l : Launch} {x : Nat} {AD : Nat → Nat} {F : mF} (hnt : l.stackTraces = false) (hD : mD x AD) (a : Int) (hI : mI F) (ha : zR a) : mMi g l x AD yX3_readerAt (ws_ yX3_readerAt cX3_readerAt 7 (some .int)) (jr 1 0 0) [.ref x, .int (zI (a))] F (fun r F' => (F' = upF F 0 0 1 ∧ ¬ (0 ≤ a ∧ a ≤ 4)) ∨ (F' = upF F 0 0 0 ∧ (0 ≤ a ∧ a ≤ 4) ∧ (0 ≤ r ∧ r < 5) ∧ rnk (ptS F) r = a)) := by
  refine mM_of (L0 := [some (.ref x), some (.int (zI (a))), none, none, none, none, none]) hnt (by decide +kernel) rfl (Nat.le_of_ble_eq_true rfl) rfl rfl ?_
  intro Θ hΘ p e s m args below meth c A Q hC hQ
  refine J_aload_n hC dX3_readerAt_0 rfl ?_
  refine J_iload_n hC dX3_readerAt_1 rfl ?_
  refine J_iconst hC dX3_readerAt_2 ?_
  refine J_iconst hC dX3_readerAt_3 ?_
  refine Jm_isIn hC (lw_S q1006 q1007 q61 q1008) ⟨(Nat.le_of_ble_eq_true rfl), (Nat.le_of_ble_eq_true rfl)⟩ (by first | with_reducible assumption | exact zR_mk (by omega) (by omega)) (by first | with_reducible assumption | exact zR_mk (by omega) (by omega)) (by first | with_reducible assumption | exact zR_mk (by omega) (by omega)) rfl (Nat.le_of_ble_eq_true rfl) dX3_readerAt_4 (fun b4 hb4 => ?_)
  refine J_if_eq (tgt := 14) hC (by first | with_reducible assumption | exact zR_mk (by omega) (by omega)) dX3_readerAt_7 rfl (fun c7 => ?_) (fun c7 => ?_)
  · refine J_iconst hC dX3_readerAt_14 ?_
    refine Jm_callVi (n := 1) hC hΘ (m_holds hnt hD 1 (zR_mk (by omega) (by omega))) (lw_V q994 q996 qs16 q61 q997) ⟨rfl, by decide +kernel⟩ ⟨(Nat.le_of_ble_eq_true rfl), (Nat.le_of_ble_eq_true rfl)⟩ rfl rfl rfl rfl (Nat.le_of_ble_eq_true rfl) dX3_readerAt_15 ?_
    intro r2 F9 hr9
    obtain ⟨hr2, e9⟩ := hr9
    rw [e9]
    refine J_if_ne (tgt := 23) hC (by first | with_reducible assumption | exact zR_mk (by omega) (by omega)) dX3_readerAt_18 rfl (fun c18 => ?_) (fun c18 => ?_)
    · omega
    · refine J_iconst hC dX3_readerAt_21 ?_
      refine Jm_iret hC hQ  ⟨_, rfl, ?_⟩ dX3_readerAt_22
      exact Or.inl ⟨rfl, by omega⟩
  · refine J_iconst hC dX3_readerAt_10 ?_
    refine J_goto (tgt := 15) hC dX3_readerAt_11 rfl ?_
    refine Jm_callVi (n := 1) hC hΘ (m_holds hnt hD 0 (zR_mk (by omega) (by omega))) (lw_V q994 q996 qs16 q61 q997) ⟨rfl, by decide +kernel⟩ ⟨(Nat.le_of_ble_eq_true rfl), (Nat.le_of_ble_eq_true rfl)⟩ rfl rfl rfl rfl (Nat.le_of_ble_eq_true rfl) dX3_readerAt_15 ?_
    intro r2 F9 hr9
    obtain ⟨hr2, e9⟩ := hr9
    rw [e9]
    have hI1 := scr_mI (scr_th 0 (mI_B hI)) hI
    have hal : 0 ≤ a ∧ a ≤ 4 := by omega
    refine J_if_ne (tgt := 23) hC (by first | with_reducible assumption | exact zR_mk (by omega) (by omega)) dX3_readerAt_18 rfl (fun c18 => ?_) (fun c18 => ?_)
    · have loop : ∀ (n : Nat) (k f : Int), 0 ≤ k → k ≤ 5 → 5 - k < n → ((∀ q, 0 ≤ q → q < k → ¬ rnk (ptS F) q = a) ∨ (0 ≤ f ∧ f < 5) ∧ rnk (ptS F) f = a) → J p l e (jr 1 0 0) s m args below meth c A Q (mP g x AD Θ (upF F 0 0 0) A) 0 0 27 [some (.ref x), some (.int (zI (a))), some (.int (zI (f))), some (.int (zI (k))), none, none, none] [] := by
        intro n
        induction n with
        | zero => intro k f h1 h2 h3; omega
        | succ n ih =>
          intro k f h1 h2 h3 hf
          refine J_iload_n hC dX3_readerAt_27 rfl ?_
          refine J_iconst hC dX3_readerAt_28 ?_
          refine J_icmp_ge (tgt := 108) hC (by first | with_reducible assumption | exact zR_mk (by omega) (by omega)) (by first | with_reducible assumption | exact zR_mk (by omega) (by omega)) dX3_readerAt_29 rfl (fun c29 => ?_) (fun c29 => ?_)
          · refine J_iload_n hC dX3_readerAt_108 rfl ?_
            refine Jm_iret hC hQ  ⟨_, rfl, ?_⟩ dX3_readerAt_109
            refine Or.inr ⟨rfl, hal, ?_⟩
            rcases hf with z | z
            · obtain ⟨q, q1, q2⟩ := rnk_ex (ptS F) hal
              exact absurd q2 (z q q1.1 (by omega))
            · exact z
          · have inner : ∀ (n2 : Nat) (o s0 : Int), 0 ≤ o → o ≤ 5 → 5 - o < n2 → s0 = sI (ahd (ptS F) k) o → J p l e (jr 1 0 0) s m args below meth c A Q (mP g x AD Θ (upF F 0 0 0) A) 0 0 38 [some (.ref x), some (.int (zI (a))), some (.int (zI (f))), some (.int (zI (k))), some (.int (zI (s0))), some (.int (zI (o))), none] [] := by
              intro n2
              induction n2 with
              | zero => intro o s0 g1 g2 g3; omega
              | succ n2 ih2 =>
                intro o s0 g1 g2 g3 gs
                have hsu := sI_succ (ahd (ptS F) k) g1
                refine J_iload hC dX3_readerAt_38 rfl ?_
                refine J_iconst hC dX3_readerAt_40 ?_
                refine J_icmp_ge (tgt := 90) hC (by first | with_reducible assumption | exact zR_mk (by omega) (by omega)) (by first | with_reducible assumption | exact zR_mk (by omega) (by omega)) dX3_readerAt_41 rfl (fun c41 => ?_) (fun c41 => ?_)
                · have er : s0 = rnk (ptS F) k := by rw [gs, show o = 5 by omega]; rfl
                  have hrb := rnk_bd (P := ptS F) (a := k) ⟨h1, by omega⟩
                  refine J_iload hC dX3_readerAt_90 rfl ?_
                  refine J_iload_n hC dX3_readerAt_92 rfl ?_
                  refine J_icmp_ne (tgt := 100) hC (by first | with_reducible assumption | exact zR_mk (by omega) (by omega)) (by first | with_reducible assumption | exact zR_mk (by omega) (by omega)) dX3_readerAt_93 rfl (fun c93 => ?_) (fun c93 => ?_)
                  · refine J_iload_n hC dX3_readerAt_100 rfl ?_
                    refine J_istore_n (i := 2) hC dX3_readerAt_101 rfl (Nat.le_of_ble_eq_true rfl) ?_
                    refine J_iinc hC dX3_readerAt_102 rfl (Nat.le_of_ble_eq_true rfl) ?_
                    refine J_goto (tgt := 27) hC dX3_readerAt_105 rfl ?_
                    refine J_forget (L' := [some (.ref x), some (.int (zI (a))), some (.int (zI (f))), some (.int (zI (k + 1))), none, none, none]) (by simp [jle]) ?_
                    refine ih (k + 1) f (by omega) (by omega) (by omega) ?_
                    rcases hf with z | z
                    · refine Or.inl (fun q q1 q2 => ?_)
                      by_cases hqk : q = k
                      · rw [hqk, ← er]; exact c93
                      · exact z q q1 (by omega)
                    · exact Or.inr z
                  · refine J_iload_n hC dX3_readerAt_96 rfl ?_
                    refine J_goto (tgt := 101) hC dX3_readerAt_97 rfl ?_
                    refine J_istore_n (i := 2) hC dX3_readerAt_101 rfl (Nat.le_of_ble_eq_true rfl) ?_
                    refine J_iinc hC dX3_readerAt_102 rfl (Nat.le_of_ble_eq_true rfl) ?_
                    refine J_goto (tgt := 27) hC dX3_readerAt_105 rfl ?_
                    refine J_forget (L' := [some (.ref x), some (.int (zI (a))), some (.int (zI (k))), some (.int (zI (k + 1))), none, none, none]) (by simp [jle]) ?_
                    exact ih (k + 1) k (by omega) (by omega) (by omega) (Or.inr ⟨⟨h1, by omega⟩, by rw [← er]; exact c93⟩)
                · have b1 := ptS_bd hI o
                  have b2 := ptS_bd hI k
                  refine J_aload_n hC dX3_readerAt_44 rfl ?_
                  refine J_iload hC dX3_readerAt_45 rfl ?_
                  refine Jm_callVi (n := 1) hC hΘ (m_points hnt hD o hI1 (zR_mk (by omega) (by omega))) (lw_V q1150 q1152 qs39 q61 q1153) ⟨rfl, by decide +kernel⟩ ⟨(Nat.le_of_ble_eq_true rfl), (Nat.le_of_ble_eq_true rfl)⟩ rfl rfl rfl rfl (Nat.le_of_ble_eq_true rfl) dX3_readerAt_47 ?_
                  intro po F9 hr9
                  obtain ⟨hpo, e9⟩ := hr9
                  have hpo : po = ptS F o := hpo
                  rw [e9, hpo]
                  refine J_aload_n hC dX3_readerAt_50 rfl ?_
                  refine J_iload_n hC dX3_readerAt_51 rfl ?_
                  refine Jm_callVi (n := 1) hC hΘ (m_points hnt hD k hI1 (zR_mk (by omega) (by omega))) (lw_V q1150 q1152 qs39 q61 q1153) ⟨rfl, by decide +kernel⟩ ⟨(Nat.le_of_ble_eq_true rfl), (Nat.le_of_ble_eq_true rfl)⟩ rfl rfl rfl rfl (Nat.le_of_ble_eq_true rfl) dX3_readerAt_52 ?_
                  intro pk F9 hr9
                  obtain ⟨hpk, e9⟩ := hr9
                  have hpk : pk = ptS F k := hpk
                  rw [e9, hpk]
                  refine J_isub hC dX3_readerAt_55 ?_
                  refine J_istore hC dX3_readerAt_56 (Nat.le_of_ble_eq_true rfl) ?_
                  refine J_iload hC dX3_readerAt_58 rfl ?_
                  refine J_iload hC dX3_readerAt_60 rfl ?_
                  have yes : ahd (ptS F) k o = 1 → J p l e (jr 1 0 0) s m args below meth c A Q (mP g x AD Θ (upF F 0 0 0) A) 0 0 76 [some (.ref x), some (.int (zI (a))), some (.int (zI (f))), some (.int (zI (k))), some (.int (zI (s0))), some (.int (zI (o))), none] [.int (zI s0)] := by
                    intro hy
                    refine J_iconst hC dX3_readerAt_76 ?_
                    refine J_goto (tgt := 81) hC dX3_readerAt_77 rfl ?_
                    refine J_iadd hC dX3_readerAt_81 ?_
                    refine J_istore hC dX3_readerAt_82 (Nat.le_of_ble_eq_true rfl) ?_
                    refine J_iinc hC dX3_readerAt_84 rfl (Nat.le_of_ble_eq_true rfl) ?_
                    refine J_goto (tgt := 38) hC dX3_readerAt_87 rfl ?_
                    exact ih2 (o + 1) (s0 + 1) (by omega) (by omega) (by omega) (by rw [hsu, gs, hy])
                  have no : ahd (ptS F) k o = 0 → J p l e (jr 1 0 0) s m args below meth c A Q (mP g x AD Θ (upF F 0 0 0) A) 0 0 80 [some (.ref x), some (.int (zI (a))), some (.int (zI (f))), some (.int (zI (k))), some (.int (zI (s0))), some (.int (zI (o))), none] [.int (zI s0)] := by
                    intro hy
                    refine J_iconst hC dX3_readerAt_80 ?_
                    refine J_iadd hC dX3_readerAt_81 ?_
                    refine J_istore hC dX3_readerAt_82 (Nat.le_of_ble_eq_true rfl) ?_
                    refine J_iinc hC dX3_readerAt_84 rfl (Nat.le_of_ble_eq_true rfl) ?_
                    refine J_goto (tgt := 38) hC dX3_readerAt_87 rfl ?_
                    exact ih2 (o + 1) (s0 + 0) (by omega) (by omega) (by omega) (by rw [hsu, gs, hy])
                  refine J_if_gt (tgt := 76) hC (by first | with_reducible assumption | exact zR_mk (by omega) (by omega)) dX3_readerAt_62 rfl (fun c62 => ?_) (fun c62 => ?_)
                  · refine J_forget (L' := [some (.ref x), some (.int (zI (a))), some (.int (zI (f))), some (.int (zI (k))), some (.int (zI (s0))), some (.int (zI (o))), none]) (by simp [jle]) ?_
                    exact yes (by unfold ahd; rw [if_pos (Or.inl (by omega))])
                  · refine J_iload hC dX3_readerAt_65 rfl ?_
                    refine J_if_ne (tgt := 80) hC (by first | with_reducible assumption | exact zR_mk (by omega) (by omega)) dX3_readerAt_67 rfl (fun c67 => ?_) (fun c67 => ?_)
                    · refine J_forget (L' := [some (.ref x), some (.int (zI (a))), some (.int (zI (f))), some (.int (zI (k))), some (.int (zI (s0))), some (.int (zI (o))), none]) (by simp [jle]) ?_
                      exact no (by unfold ahd; rw [if_neg (by omega)])
                    · refine J_iload hC dX3_readerAt_70 rfl ?_
                      refine J_iload_n hC dX3_readerAt_72 rfl ?_
                      refine J_icmp_ge (tgt := 80) hC (by first | with_reducible assumption | exact zR_mk (by omega) (by omega)) (by first | with_reducible assumption | exact zR_mk (by omega) (by omega)) dX3_readerAt_73 rfl (fun c73 => ?_) (fun c73 => ?_)
                      · refine J_forget (L' := [some (.ref x), some (.int (zI (a))), some (.int (zI (f))), some (.int (zI (k))), some (.int (zI (s0))), some (.int (zI (o))), none]) (by simp [jle]) ?_
                        exact no (by unfold ahd; rw [if_neg (by omega)])
                      · refine J_forget (L' := [some (.ref x), some (.int (zI (a))), some (.int (zI (f))), some (.int (zI (k))), some (.int (zI (s0))), some (.int (zI (o))), none]) (by simp [jle]) ?_
                        exact yes (by unfold ahd; rw [if_pos (Or.inr ⟨by omega, by omega⟩)])
            refine J_iconst hC dX3_readerAt_32 ?_
            refine J_istore hC dX3_readerAt_33 (Nat.le_of_ble_eq_true rfl) ?_
            refine J_iconst hC dX3_readerAt_35 ?_
            refine J_istore hC dX3_readerAt_36 (Nat.le_of_ble_eq_true rfl) ?_
            refine J_forget (L' := [some (.ref x), some (.int (zI (a))), some (.int (zI (f))), some (.int (zI (k))), some (.int (zI (0))), some (.int (zI (0))), none]) (by simp [jle]) ?_
            exact inner 6 0 0 (by omega) (by omega) (by omega) (sI_0 _).symm
      refine J_iconst hC dX3_readerAt_23 ?_
      refine J_istore_n (i := 2) hC dX3_readerAt_24 rfl (Nat.le_of_ble_eq_true rfl) ?_
      refine J_iconst hC dX3_readerAt_25 ?_
      refine J_istore_n (i := 3) hC dX3_readerAt_26 rfl (Nat.le_of_ble_eq_true rfl) ?_
      exact loop 6 0 0 (by omega) (by omega) (by omega) (Or.inl (fun q q1 q2 => by omega))
    · omega
theorem m_setPage {g : jG} {l : Launch} {x : Nat} {AD : Nat → Nat} {F : mF} (hnt : l.stackTraces = false) (hD : mD x AD) (a b : Int) (hI : mI F) (ha : zR a) (hb : zR b) : mMi g l x AD yX3_setPage (ws_ yX3_setPage cX3_setPage 4 (some .int)) (jr 1 0 0) [.ref x, .int (zI (a)), .int (zI (b))] F (fun r F' => (F' = upF F 0 0 1 ∧ ¬ ((10 ≤ a ∧ a ≤ 60) ∧ 3 ≤ b ∧ b ≤ 20)) ∨ (((10 ≤ a ∧ a ≤ 60) ∧ 3 ≤ b ∧ b ≤ 20) ∧ r = F 1 0 ∧ F' = upF (upF (upF F 0 0 0) 1 0 a) 2 0 b)) := by
  refine mM_of (L0 := [some (.ref x), some (.int (zI (a))), some (.int (zI (b))), none]) hnt (by decide +kernel) rfl (Nat.le_of_ble_eq_true rfl) rfl rfl ?_
  intro Θ hΘ p e s m args below meth c A Q hC hQ
  have bad27 : ¬ ((10 ≤ a ∧ a ≤ 60) ∧ 3 ≤ b ∧ b ≤ 20) → J p l e (jr 1 0 0) s m args below meth c A Q (mP g x AD Θ (F) A) 0 0 26 [some (.ref x), some (.int (zI (a))), some (.int (zI (b))), none] [.ref x] := by
    intro hn
    refine J_iconst hC dX3_setPage_26 ?_
    refine Jm_callVi (n := 1) hC hΘ (m_holds hnt hD 1 (zR_mk (by omega) (by omega))) (lw_V q994 q996 qs16 q61 q997) ⟨rfl, by decide +kernel⟩ ⟨(Nat.le_of_ble_eq_true rfl), (Nat.le_of_ble_eq_true rfl)⟩ rfl rfl rfl rfl (Nat.le_of_ble_eq_true rfl) dX3_setPage_27 ?_
    intro r2 F9 hr9
    obtain ⟨hr2, e9⟩ := hr9
    rw [e9]
    refine J_if_ne (tgt := 35) hC (by first | with_reducible assumption | exact zR_mk (by omega) (by omega)) dX3_setPage_30 rfl (fun c30 => ?_) (fun c30 => ?_)
    · omega
    · refine J_iconst hC dX3_setPage_33 ?_
      refine Jm_iret hC hQ  ⟨_, rfl, ?_⟩ dX3_setPage_34
      exact Or.inl ⟨rfl, hn⟩
  refine J_aload_n hC dX3_setPage_0 rfl ?_
  refine J_iload_n hC dX3_setPage_1 rfl ?_
  refine J_bipush hC dX3_setPage_2 (by decide) ?_
  refine J_bipush hC dX3_setPage_4 (by decide) ?_
  refine Jm_isIn hC (lw_S q1006 q1007 q61 q1008) ⟨(Nat.le_of_ble_eq_true rfl), (Nat.le_of_ble_eq_true rfl)⟩ (by first | with_reducible assumption | exact zR_mk (by omega) (by omega)) (by first | with_reducible assumption | exact zR_mk (by omega) (by omega)) (by first | with_reducible assumption | exact zR_mk (by omega) (by omega)) rfl (Nat.le_of_ble_eq_true rfl) dX3_setPage_6 (fun b6 hb6 => ?_)
  refine J_if_eq (tgt := 26) hC (by first | with_reducible assumption | exact zR_mk (by omega) (by omega)) dX3_setPage_9 rfl (fun c9 => ?_) (fun c9 => ?_)
  · exact bad27 (by omega)
  · refine J_iload_n hC dX3_setPage_12 rfl ?_
    refine J_iconst hC dX3_setPage_13 ?_
    refine J_bipush hC dX3_setPage_14 (by decide) ?_
    refine Jm_isIn hC (lw_S q1006 q1007 q61 q1008) ⟨(Nat.le_of_ble_eq_true rfl), (Nat.le_of_ble_eq_true rfl)⟩ (by first | with_reducible assumption | exact zR_mk (by omega) (by omega)) (by first | with_reducible assumption | exact zR_mk (by omega) (by omega)) (by first | with_reducible assumption | exact zR_mk (by omega) (by omega)) rfl (Nat.le_of_ble_eq_true rfl) dX3_setPage_16 (fun b16 hb16 => ?_)
    refine J_if_eq (tgt := 26) hC (by first | with_reducible assumption | exact zR_mk (by omega) (by omega)) dX3_setPage_19 rfl (fun c19 => ?_) (fun c19 => ?_)
    · exact bad27 (by omega)
    · refine J_iconst hC dX3_setPage_22 ?_
      refine J_goto (tgt := 27) hC dX3_setPage_23 rfl ?_
      refine Jm_callVi (n := 1) hC hΘ (m_holds hnt hD 0 (zR_mk (by omega) (by omega))) (lw_V q994 q996 qs16 q61 q997) ⟨rfl, by decide +kernel⟩ ⟨(Nat.le_of_ble_eq_true rfl), (Nat.le_of_ble_eq_true rfl)⟩ rfl rfl rfl rfl (Nat.le_of_ble_eq_true rfl) dX3_setPage_27 ?_
      intro r2 F9 hr9
      obtain ⟨hr2, e9⟩ := hr9
      rw [e9]
      refine J_if_ne (tgt := 35) hC (by first | with_reducible assumption | exact zR_mk (by omega) (by omega)) dX3_setPage_30 rfl (fun c30 => ?_) (fun c30 => ?_)
      · refine J_aload_n hC dX3_setPage_35 rfl ?_
        refine Jm_get hC 1 (by decide) q922 rfl rfl dX3_setPage_36 ?_
        refine J_istore_n (i := 3) hC dX3_setPage_39 rfl (Nat.le_of_ble_eq_true rfl) ?_
        refine J_aload_n hC dX3_setPage_40 rfl ?_
        refine J_iload_n hC dX3_setPage_41 rfl ?_
        refine Jm_put hC hD hΘ 1 rfl q922 rfl (by decide) dX3_setPage_42 ?_
        refine J_aload_n hC dX3_setPage_45 rfl ?_
        refine J_iload_n hC dX3_setPage_46 rfl ?_
        refine Jm_put hC hD hΘ 2 rfl q923 rfl (by decide) dX3_setPage_47 ?_
        refine J_iload_n hC dX3_setPage_50 rfl ?_
        refine Jm_iret hC hQ  ⟨_, rfl, ?_⟩ dX3_setPage_51
        exact Or.inr ⟨by omega, rfl, rfl⟩
      · omega
theorem m_vote {g : jG} {l : Launch} {x : Nat} {AD : Nat → Nat} {F : mF} (hnt : l.stackTraces = false) (hD : mD x AD) (a b g1 : Int) (hI : mI F) (ha : zR a) (hb : zR b) (hg : g1 = 0 ∨ g1 = 1) : mMi g l x AD yX3_vote (ws_ yX3_vote cX3_vote 6 (some .int)) (jr 2 0 0) [.ref x, .int (zI (a)), .int (zI (b)), .int (zI (g1))] F (fun r F' => (F' = upF F 0 0 1 ∧ ¬ ((0 ≤ a ∧ a < F 7 0) ∧ 1 ≤ b ∧ b ≤ F 8 a - 1)) ∨ (F' = upF F 0 0 2 ∧ ((0 ≤ a ∧ a < F 7 0) ∧ 1 ≤ b ∧ b ≤ F 8 a - 1) ∧ F 11 (16 * a + b) = (if g1 = 0 then -100 else 100)) ∨ (((0 ≤ a ∧ a < F 7 0) ∧ 1 ≤ b ∧ b ≤ F 8 a - 1) ∧ ¬ F 11 (16 * a + b) = (if g1 = 0 then -100 else 100) ∧ F' = upF (upF F 0 0 0) 11 (16 * a + b) (F 11 (16 * a + b) + (if g1 = 0 then -1 else 1)) ∧ r = F 11 (16 * a + b) + (if g1 = 0 then -1 else 1))) := by
  refine mM_of (L0 := [some (.ref x), some (.int (zI (a))), some (.int (zI (b))), some (.int (zI (g1))), none, none]) hnt (by decide +kernel) rfl (Nat.le_of_ble_eq_true rfl) rfl rfl ?_
  intro Θ hΘ p e s m args below meth c A Q hC hQ
  have hnw := mI_nw hI
  have inval : ∀ k9 : Int, ¬ ((0 ≤ a ∧ a < F 7 0) ∧ 1 ≤ b ∧ b ≤ F 8 a - 1) → J p l e (jr 2 0 0) s m args below meth c A Q (mP g x AD Θ (F) A) 0 0 28 [some (.ref x), some (.int (zI (a))), some (.int (zI (b))), some (.int (zI (g1))), none, none] [] := by
    intro k9 hn
    refine J_iconst hC dX3_vote_28 ?_
    refine J_istore hC dX3_vote_29 (Nat.le_of_ble_eq_true rfl) ?_
    refine J_iload hC dX3_vote_31 rfl ?_
    refine J_if_eq (tgt := 45) hC (by first | with_reducible assumption | exact zR_mk (by omega) (by omega)) dX3_vote_33 rfl (fun c33 => ?_) (fun c33 => ?_)
    · refine J_iconst hC dX3_vote_45 ?_
      refine J_istore hC dX3_vote_46 (Nat.le_of_ble_eq_true rfl) ?_
      refine J_aload_n hC dX3_vote_48 rfl ?_
      refine J_iload hC dX3_vote_49 rfl ?_
      refine J_if_ne (tgt := 58) hC (by first | with_reducible assumption | exact zR_mk (by omega) (by omega)) dX3_vote_51 rfl (fun c51 => ?_) (fun c51 => ?_)
      · omega
      · refine J_iconst hC dX3_vote_54 ?_
        refine J_goto (tgt := 84) hC dX3_vote_55 rfl ?_
        refine Jm_callVi (n := 1) hC hΘ (m_holds hnt hD 1 (zR_mk (by omega) (by omega))) (lw_V q994 q996 qs16 q61 q997) ⟨rfl, by decide +kernel⟩ ⟨(Nat.le_of_ble_eq_true rfl), (Nat.le_of_ble_eq_true rfl)⟩ rfl rfl rfl rfl (Nat.le_of_ble_eq_true rfl) dX3_vote_84 ?_
        intro r2 F9 hr9
        obtain ⟨hr2, e9⟩ := hr9
        rw [e9]
        refine J_if_ne (tgt := 92) hC (by first | with_reducible assumption | exact zR_mk (by omega) (by omega)) dX3_vote_87 rfl (fun c87 => ?_) (fun c87 => ?_)
        · omega
        · refine J_iconst hC dX3_vote_90 ?_
          refine Jm_iret hC hQ  ⟨_, rfl, ?_⟩ dX3_vote_91
          exact Or.inl ⟨rfl, hn⟩
    · omega
  refine J_aload_n hC dX3_vote_0 rfl ?_
  refine J_iload_n hC dX3_vote_1 rfl ?_
  refine Jm_callVi (n := 1) hC hΘ (m_isWord hnt hD a ha hnw) (lw_V q1013 q1015 qs18 q61 q1016) ⟨rfl, by decide +kernel⟩ ⟨(Nat.le_of_ble_eq_true rfl), (Nat.le_of_ble_eq_true rfl)⟩ rfl rfl rfl rfl (Nat.le_of_ble_eq_true rfl) dX3_vote_2 ?_
  intro r F9 hr9
  obtain ⟨hr, e9⟩ := hr9
  rw [e9]
  refine J_if_eq (tgt := 28) hC (by first | with_reducible assumption | exact zR_mk (by omega) (by omega)) dX3_vote_5 rfl (fun c5 => ?_) (fun c5 => ?_)
  · exact inval 0 (by omega)
  · have hw := mI_w hI (w := a) (by omega) (by omega)
    refine J_iload_n hC dX3_vote_8 rfl ?_
    refine J_iconst hC dX3_vote_9 ?_
    refine J_aload_n hC dX3_vote_10 rfl ?_
    refine Jm_get hC 8 (by decide) q929 rfl rfl dX3_vote_11 ?_
    refine J_iload_n hC dX3_vote_14 rfl ?_
    refine Jm_iald hC 8 (n := 60) rfl rfl (by decide) rfl (by omega) (by omega) dX3_vote_15 ?_
    refine J_iconst hC dX3_vote_16 ?_
    refine J_isub hC dX3_vote_17 ?_
    refine Jm_isIn hC (lw_S q1006 q1007 q61 q1008) ⟨(Nat.le_of_ble_eq_true rfl), (Nat.le_of_ble_eq_true rfl)⟩ (by first | with_reducible assumption | exact zR_mk (by omega) (by omega)) (by first | with_reducible assumption | exact zR_mk (by omega) (by omega)) (by first | with_reducible assumption | exact zR_mk (by omega) (by omega)) rfl (Nat.le_of_ble_eq_true rfl) dX3_vote_18 (fun b18 hb18 => ?_)
    refine J_if_eq (tgt := 28) hC (by first | with_reducible assumption | exact zR_mk (by omega) (by omega)) dX3_vote_21 rfl (fun c21 => ?_) (fun c21 => ?_)
    · exact inval 0 (by omega)
    · have hv : (0 ≤ a ∧ a < F 7 0) ∧ 1 ≤ b ∧ b ≤ F 8 a - 1 := by omega
      obtain ⟨k, hk⟩ : ∃ z, z = 16 * a + b := ⟨_, rfl⟩
      have hsc := mI_score hI k
      refine J_iconst hC dX3_vote_24 ?_
      refine J_goto (tgt := 29) hC dX3_vote_25 rfl ?_
      refine J_istore hC dX3_vote_29 (Nat.le_of_ble_eq_true rfl) ?_
      refine J_iload hC dX3_vote_31 rfl ?_
      refine J_if_eq (tgt := 45) hC (by first | with_reducible assumption | exact zR_mk (by omega) (by omega)) dX3_vote_33 rfl (fun c33 => ?_) (fun c33 => ?_)
      · omega
      · refine J_bipush hC dX3_vote_36 (by decide) ?_
        refine J_iload_n hC dX3_vote_38 rfl ?_
        refine J_imul hC dX3_vote_39 ?_
        refine J_iload_n hC dX3_vote_40 rfl ?_
        refine J_iadd hC dX3_vote_41 ?_
        refine J_goto (tgt := 46) hC dX3_vote_42 rfl ?_
        rw [← hk]
        refine J_istore hC dX3_vote_46 (Nat.le_of_ble_eq_true rfl) ?_
        refine J_aload_n hC dX3_vote_48 rfl ?_
        refine J_iload hC dX3_vote_49 rfl ?_
        refine J_if_ne (tgt := 58) hC (by first | with_reducible assumption | exact zR_mk (by omega) (by omega)) dX3_vote_51 rfl (fun c51 => ?_) (fun c51 => ?_)
        · obtain ⟨lim, hlim⟩ : ∃ z : Int, z = (if g1 = 0 then -100 else 100) := ⟨_, rfl⟩
          have h76 : J p l e (jr 2 0 0) s m args below meth c A Q (mP g x AD Θ (F) A) 0 0 76 [some (.ref x), some (.int (zI (a))), some (.int (zI (b))), some (.int (zI (g1))), some (.int (zI (1))), some (.int (zI (k)))] [.int (zI lim), .int (zI (F 11 k)), .ref x] := by
            have hlb : -100 ≤ lim ∧ lim ≤ 100 := by rw [hlim]; split <;> omega
            refine J_icmp_ne (tgt := 83) hC (by first | with_reducible assumption | exact zR_mk (by omega) (by omega)) (by first | with_reducible assumption | exact zR_mk (by omega) (by omega)) dX3_vote_76 rfl (fun c76 => ?_) (fun c76 => ?_)
            · refine J_iconst hC dX3_vote_83 ?_
              refine Jm_callVi (n := 1) hC hΘ (m_holds hnt hD 0 (zR_mk (by omega) (by omega))) (lw_V q994 q996 qs16 q61 q997) ⟨rfl, by decide +kernel⟩ ⟨(Nat.le_of_ble_eq_true rfl), (Nat.le_of_ble_eq_true rfl)⟩ rfl rfl rfl rfl (Nat.le_of_ble_eq_true rfl) dX3_vote_84 ?_
              intro r2 F9 hr9
              obtain ⟨hr2, e9⟩ := hr9
              rw [e9]
              refine J_if_ne (tgt := 92) hC (by first | with_reducible assumption | exact zR_mk (by omega) (by omega)) dX3_vote_87 rfl (fun c87 => ?_) (fun c87 => ?_)
              · have h109 : ∀ d : Int, d = (if g1 = 0 then -1 else 1) → J p l e (jr 2 0 0) s m args below meth c A Q (mP g x AD Θ (upF F 0 0 0) A) 0 0 109 [some (.ref x), some (.int (zI (a))), some (.int (zI (b))), some (.int (zI (g1))), some (.int (zI (1))), some (.int (zI (k)))] [.int (zI d), .int (zI (F 11 k)), .int (zI k), .ref (AD 11)] := by
                  intro d hd
                  refine J_iadd hC dX3_vote_109 ?_
                  refine Jm_iast hC hD hΘ 11 (n := 960) rfl (by decide) rfl (by omega) (by omega) dX3_vote_110 ?_
                  refine J_aload_n hC dX3_vote_111 rfl ?_
                  refine Jm_get hC 11 (by decide) q932 rfl rfl dX3_vote_112 ?_
                  refine J_iload hC dX3_vote_115 rfl ?_
                  refine Jm_iald hC 11 (n := 960) (v := F 11 k + d) (upF_self _ _ _ _) rfl (by decide) rfl (by omega) (by omega) dX3_vote_117 ?_
                  refine Jm_iret hC hQ  ⟨_, rfl, ?_⟩ dX3_vote_118
                  refine Or.inr (Or.inr ⟨hv, by rw [← hk, ← hlim]; exact c76, by rw [← hk, hd], by rw [← hk, hd]⟩)
                refine J_aload_n hC dX3_vote_92 rfl ?_
                refine Jm_get hC 11 (by decide) q932 rfl rfl dX3_vote_93 ?_
                refine J_iload hC dX3_vote_96 rfl ?_
                refine J_dup2 hC dX3_vote_98 rfl rfl ?_
                refine Jm_iald hC 11 (n := 960) (v := F 11 k) rfl rfl (by decide) rfl (by omega) (by omega) dX3_vote_99 ?_
                refine J_iload_n hC dX3_vote_100 rfl ?_
                refine J_if_eq (tgt := 108) hC (by first | with_reducible assumption | exact zR_mk (by omega) (by omega)) dX3_vote_101 rfl (fun c101 => ?_) (fun c101 => ?_)
                · refine J_iconst hC dX3_vote_108 ?_
                  exact h109 (-1) (by rw [if_pos c101])
                · refine J_iconst hC dX3_vote_104 ?_
                  refine J_goto (tgt := 109) hC dX3_vote_105 rfl ?_
                  exact h109 1 (by rw [if_neg c101])
              · omega
            · refine J_iconst hC dX3_vote_79 ?_
              refine J_goto (tgt := 84) hC dX3_vote_80 rfl ?_
              refine Jm_callVi (n := 1) hC hΘ (m_holds hnt hD 2 (zR_mk (by omega) (by omega))) (lw_V q994 q996 qs16 q61 q997) ⟨rfl, by decide +kernel⟩ ⟨(Nat.le_of_ble_eq_true rfl), (Nat.le_of_ble_eq_true rfl)⟩ rfl rfl rfl rfl (Nat.le_of_ble_eq_true rfl) dX3_vote_84 ?_
              intro r2 F9 hr9
              obtain ⟨hr2, e9⟩ := hr9
              rw [e9]
              refine J_if_ne (tgt := 92) hC (by first | with_reducible assumption | exact zR_mk (by omega) (by omega)) dX3_vote_87 rfl (fun c87 => ?_) (fun c87 => ?_)
              · omega
              · refine J_iconst hC dX3_vote_90 ?_
                refine Jm_iret hC hQ  ⟨_, rfl, ?_⟩ dX3_vote_91
                exact Or.inr (Or.inl ⟨rfl, hv, by rw [← hk, ← hlim]; exact c76⟩)
          refine J_aload_n hC dX3_vote_58 rfl ?_
          refine Jm_get hC 11 (by decide) q932 rfl rfl dX3_vote_59 ?_
          refine J_iload hC dX3_vote_62 rfl ?_
          refine Jm_iald hC 11 (n := 960) rfl rfl (by decide) rfl (by omega) (by omega) dX3_vote_64 ?_
          refine J_iload_n hC dX3_vote_65 rfl ?_
          refine J_if_eq (tgt := 74) hC (by first | with_reducible assumption | exact zR_mk (by omega) (by omega)) dX3_vote_66 rfl (fun c66 => ?_) (fun c66 => ?_)
          · refine J_bipush hC dX3_vote_74 (by decide) ?_
            have e : lim = -100 := by rw [hlim, if_pos c66]
            rw [e] at h76
            exact h76
          · refine J_bipush hC dX3_vote_69 (by decide) ?_
            refine J_goto (tgt := 76) hC dX3_vote_71 rfl ?_
            have e : lim = 100 := by rw [hlim, if_neg c66]
            rw [e] at h76
            exact h76
        · omega
def awF (F : mF) (a b : Int) : mF := upF (upF (upF (upF (upF (upF (upF F 0 0 0) 8 (F 7 0) b) 9 (F 7 0) a) 10 (F 7 0) (F 5 a)) 6 (60 * a + F 5 a) (F 7 0)) 5 a (F 5 a + 1)) 7 0 (F 7 0 + 1)
theorem m_addWord {g : jG} {l : Launch} {x : Nat} {AD : Nat → Nat} {F : mF} (hnt : l.stackTraces = false) (hD : mD x AD) (a b : Int) (hI : mI F) (ha : zR a) (hb : zR b) : mMi g l x AD yX3_addWord (ws_ yX3_addWord cX3_addWord 5 (some .int)) (jr 2 0 0) [.ref x, .int (zI (a)), .int (zI (b))] F (fun r F' => (F' = upF F 0 0 1 ∧ ¬ (0 ≤ a ∧ a < F 3 0)) ∨ (F' = upF F 0 0 2 ∧ (0 ≤ a ∧ a < F 3 0) ∧ ¬ (1 ≤ b ∧ b ≤ 15)) ∨ (F' = upF F 0 0 3 ∧ (0 ≤ a ∧ a < F 3 0) ∧ (1 ≤ b ∧ b ≤ 15) ∧ ¬ (F 4 a = 0 ∧ F 7 0 < 60)) ∨ ((0 ≤ a ∧ a < F 3 0) ∧ (1 ≤ b ∧ b ≤ 15) ∧ (F 4 a = 0 ∧ F 7 0 < 60) ∧ F' = awF F a b ∧ r = F 7 0)) := by
  refine mM_of (L0 := [some (.ref x), some (.int (zI (a))), some (.int (zI (b))), none, none]) hnt (by decide +kernel) rfl (Nat.le_of_ble_eq_true rfl) rfl rfl ?_
  intro Θ hΘ p e s m args below meth c A Q hC hQ
  have hnp := mI_np hI
  have hnw := mI_nw hI
  refine J_aload_n hC dX3_addWord_0 rfl ?_
  refine J_iload_n hC dX3_addWord_1 rfl ?_
  refine Jm_callVi (n := 1) hC hΘ (m_isParagraph hnt hD a ha hnp) (lw_V q1002 q1004 qs17 q61 q1005) ⟨rfl, by decide +kernel⟩ ⟨(Nat.le_of_ble_eq_true rfl), (Nat.le_of_ble_eq_true rfl)⟩ rfl rfl rfl rfl (Nat.le_of_ble_eq_true rfl) dX3_addWord_2 ?_
  intro ip F9 hr9
  obtain ⟨hr, e9⟩ := hr9
  rw [e9]
  refine J_istore_n (i := 3) hC dX3_addWord_5 rfl (Nat.le_of_ble_eq_true rfl) ?_
  refine J_iload_n hC dX3_addWord_6 rfl ?_
  have h68 : ∀ th cn : Int, 0 ≤ th → th ≤ 3 → ((th = 1 ∧ ¬ (0 ≤ a ∧ a < F 3 0)) ∨ (th = 2 ∧ (0 ≤ a ∧ a < F 3 0) ∧ ¬ (1 ≤ b ∧ b ≤ 15)) ∨ (th = 3 ∧ (0 ≤ a ∧ a < F 3 0) ∧ (1 ≤ b ∧ b ≤ 15) ∧ ¬ (F 4 a = 0 ∧ F 7 0 < 60)) ∨ (th = 0 ∧ (0 ≤ a ∧ a < F 3 0) ∧ (1 ≤ b ∧ b ≤ 15) ∧ (F 4 a = 0 ∧ F 7 0 < 60))) → J p l e (jr 2 0 0) s m args below meth c A Q (mP g x AD Θ (F) A) 0 0 68 [some (.ref x), some (.int (zI (a))), some (.int (zI (b))), some (.int (zI (ip))), some (.int (zI (cn)))] [.int (zI th), .ref x] := by
    intro th cn t1 t2 hth
    refine Jm_callVi (n := 1) hC hΘ (m_holds hnt hD th (zR_mk (by omega) (by omega))) (lw_V q994 q996 qs16 q61 q997) ⟨rfl, by decide +kernel⟩ ⟨(Nat.le_of_ble_eq_true rfl), (Nat.le_of_ble_eq_true rfl)⟩ rfl rfl rfl rfl (Nat.le_of_ble_eq_true rfl) dX3_addWord_68 ?_
    intro r2 F9 hr9
    obtain ⟨hr2, e9⟩ := hr9
    rw [e9]
    refine J_if_ne (tgt := 76) hC (by first | with_reducible assumption | exact zR_mk (by omega) (by omega)) dX3_addWord_71 rfl (fun c71 => ?_) (fun c71 => ?_)
    · have e : th = 0 := by omega
      subst e
      rcases hth with z | z | z | ⟨-, z1, z2, z3⟩
      · omega
      · omega
      · omega
      · have hm := mI_many hI z1.1 (by omega)
        refine J_aload_n hC dX3_addWord_76 rfl ?_
        refine Jm_get hC 8 (by decide) q929 rfl rfl dX3_addWord_77 ?_
        refine J_aload_n hC dX3_addWord_80 rfl ?_
        refine Jm_gets hC 7 (v := F 7 0) rfl rfl q928 rfl dX3_addWord_81 ?_
        refine J_iload_n hC dX3_addWord_84 rfl ?_
        refine Jm_iast hC hD hΘ 8 (n := 60) rfl (by decide) rfl (by omega) (by omega) dX3_addWord_85 ?_
        refine J_aload_n hC dX3_addWord_86 rfl ?_
        refine Jm_get hC 9 (by decide) q930 rfl rfl dX3_addWord_87 ?_
        refine J_aload_n hC dX3_addWord_90 rfl ?_
        refine Jm_gets hC 7 (v := F 7 0) rfl rfl q928 rfl dX3_addWord_91 ?_
        refine J_iload_n hC dX3_addWord_94 rfl ?_
        refine Jm_iast hC hD hΘ 9 (n := 60) rfl (by decide) rfl (by omega) (by omega) dX3_addWord_95 ?_
        refine J_aload_n hC dX3_addWord_96 rfl ?_
        refine Jm_get hC 10 (by decide) q931 rfl rfl dX3_addWord_97 ?_
        refine J_aload_n hC dX3_addWord_100 rfl ?_
        refine Jm_gets hC 7 (v := F 7 0) rfl rfl q928 rfl dX3_addWord_101 ?_
        refine J_aload_n hC dX3_addWord_104 rfl ?_
        refine Jm_get hC 5 (by decide) q926 rfl rfl dX3_addWord_105 ?_
        refine J_iload_n hC dX3_addWord_108 rfl ?_
        refine Jm_iald hC 5 (n := 6) (v := F 5 a) rfl rfl (by decide) rfl (by omega) (by omega) dX3_addWord_109 ?_
        refine Jm_iast hC hD hΘ 10 (n := 60) rfl (by decide) rfl (by omega) (by omega) dX3_addWord_110 ?_
        refine J_aload_n hC dX3_addWord_111 rfl ?_
        refine Jm_get hC 6 (by decide) q927 rfl rfl dX3_addWord_112 ?_
        refine J_bipush hC dX3_addWord_115 (by decide) ?_
        refine J_iload_n hC dX3_addWord_117 rfl ?_
        refine J_imul hC dX3_addWord_118 ?_
        refine J_aload_n hC dX3_addWord_119 rfl ?_
        refine Jm_get hC 5 (by decide) q926 rfl rfl dX3_addWord_120 ?_
        refine J_iload_n hC dX3_addWord_123 rfl ?_
        refine Jm_iald hC 5 (n := 6) (v := F 5 a) rfl rfl (by decide) rfl (by omega) (by omega) dX3_addWord_124 ?_
        refine J_iadd hC dX3_addWord_125 ?_
        refine J_aload_n hC dX3_addWord_126 rfl ?_
        refine Jm_gets hC 7 (v := F 7 0) rfl rfl q928 rfl dX3_addWord_127 ?_
        refine Jm_iast hC hD hΘ 6 (n := 360) rfl (by decide) rfl (by omega) (by omega) dX3_addWord_130 ?_
        refine J_aload_n hC dX3_addWord_131 rfl ?_
        refine Jm_get hC 5 (by decide) q926 rfl rfl dX3_addWord_132 ?_
        refine J_iload_n hC dX3_addWord_135 rfl ?_
        refine J_dup2 hC dX3_addWord_136 rfl rfl ?_
        refine Jm_iald hC 5 (n := 6) (v := F 5 a) rfl rfl (by decide) rfl (by omega) (by omega) dX3_addWord_137 ?_
        refine J_iconst hC dX3_addWord_138 ?_
        refine J_iadd hC dX3_addWord_139 ?_
        refine Jm_iast hC hD hΘ 5 (n := 6) rfl (by decide) rfl (by omega) (by omega) dX3_addWord_140 ?_
        refine J_aload_n hC dX3_addWord_141 rfl ?_
        refine J_dup hC dX3_addWord_142 rfl ?_
        refine Jm_gets hC 7 (v := F 7 0) rfl rfl q928 rfl dX3_addWord_143 ?_
        refine J_iconst hC dX3_addWord_146 ?_
        refine J_iadd hC dX3_addWord_147 ?_
        refine Jm_put hC hD hΘ 7 rfl q928 rfl (by decide) dX3_addWord_148 ?_
        refine J_aload_n hC dX3_addWord_151 rfl ?_
        refine Jm_get hC 7 (by decide) q928 rfl rfl dX3_addWord_152 ?_
        refine J_iconst hC dX3_addWord_155 ?_
        refine J_isub hC dX3_addWord_156 ?_
        refine Jm_iret hC hQ  ⟨_, rfl, ?_⟩ dX3_addWord_157
        refine Or.inr (Or.inr (Or.inr ⟨z1, z2, z3, rfl, ?_⟩))
        show F 7 0 + 1 - 1 = F 7 0
        omega
    · refine J_iconst hC dX3_addWord_74 ?_
      refine Jm_iret hC hQ  ⟨_, rfl, ?_⟩ dX3_addWord_75
      rcases hth with ⟨z0, z⟩ | ⟨z0, z⟩ | ⟨z0, z⟩ | ⟨z0, z⟩
      · subst z0; exact Or.inl ⟨rfl, z⟩
      · subst z0; exact Or.inr (Or.inl ⟨rfl, z⟩)
      · subst z0; exact Or.inr (Or.inr (Or.inl ⟨rfl, z⟩))
      · omega
  have h33 : ∀ cn : Int, (cn = 1 ∧ (0 ≤ a ∧ a < F 3 0) ∧ (F 4 a = 0 ∧ F 7 0 < 60) ∨ cn = 0 ∧ ¬ ((0 ≤ a ∧ a < F 3 0) ∧ (F 4 a = 0 ∧ F 7 0 < 60))) → J p l e (jr 2 0 0) s m args below meth c A Q (mP g x AD Θ (F) A) 0 0 33 [some (.ref x), some (.int (zI (a))), some (.int (zI (b))), some (.int (zI (ip))), none] [.int (zI cn)] := by
    intro cn hcn
    refine J_istore hC dX3_addWord_33 (Nat.le_of_ble_eq_true rfl) ?_
    refine J_aload_n hC dX3_addWord_35 rfl ?_
    refine J_iload_n hC dX3_addWord_36 rfl ?_
    refine J_if_ne (tgt := 44) hC (by first | with_reducible assumption | exact zR_mk (by omega) (by omega)) dX3_addWord_37 rfl (fun c37 => ?_) (fun c37 => ?_)
    · refine J_iload_n hC dX3_addWord_44 rfl ?_
      refine J_iconst hC dX3_addWord_45 ?_
      refine J_bipush hC dX3_addWord_46 (by decide) ?_
      refine Jm_isIn hC (lw_S q1006 q1007 q61 q1008) ⟨(Nat.le_of_ble_eq_true rfl), (Nat.le_of_ble_eq_true rfl)⟩ (by first | with_reducible assumption | exact zR_mk (by omega) (by omega)) (by first | with_reducible assumption | exact zR_mk (by omega) (by omega)) (by first | with_reducible assumption | exact zR_mk (by omega) (by omega)) rfl (Nat.le_of_ble_eq_true rfl) dX3_addWord_48 (fun b48 hb48 => ?_)
      refine J_if_ne (tgt := 58) hC (by first | with_reducible assumption | exact zR_mk (by omega) (by omega)) dX3_addWord_51 rfl (fun c51 => ?_) (fun c51 => ?_)
      · refine J_iload hC dX3_addWord_58 rfl ?_
        refine J_if_eq (tgt := 67) hC (by first | with_reducible assumption | exact zR_mk (by omega) (by omega)) dX3_addWord_60 rfl (fun c60 => ?_) (fun c60 => ?_)
        · refine J_iconst hC dX3_addWord_67 ?_
          exact h68 3 cn (by omega) (by omega) (Or.inr (Or.inr (Or.inl ⟨rfl, by omega, by omega, by omega⟩)))
        · refine J_iconst hC dX3_addWord_63 ?_
          refine J_goto (tgt := 68) hC dX3_addWord_64 rfl ?_
          exact h68 0 cn (by omega) (by omega) (Or.inr (Or.inr (Or.inr ⟨rfl, by omega, by omega, by omega⟩)))
      · refine J_iconst hC dX3_addWord_54 ?_
        refine J_goto (tgt := 68) hC dX3_addWord_55 rfl ?_
        exact h68 2 cn (by omega) (by omega) (Or.inr (Or.inl ⟨rfl, by omega, by omega⟩))
    · refine J_iconst hC dX3_addWord_40 ?_
      refine J_goto (tgt := 68) hC dX3_addWord_41 rfl ?_
      exact h68 1 cn (by omega) (by omega) (Or.inl ⟨rfl, by omega⟩)
  refine J_if_eq (tgt := 32) hC (by first | with_reducible assumption | exact zR_mk (by omega) (by omega)) dX3_addWord_7 rfl (fun c7 => ?_) (fun c7 => ?_)
  · refine J_iconst hC dX3_addWord_32 ?_
    exact h33 0 (Or.inr ⟨rfl, by omega⟩)
  · have hk := (mI_kept hI (p := a) (by omega) (by omega)).1
    refine J_aload_n hC dX3_addWord_10 rfl ?_
    refine Jm_get hC 4 (by decide) q925 rfl rfl dX3_addWord_11 ?_
    refine J_iload_n hC dX3_addWord_14 rfl ?_
    refine Jm_zald hC 4 (n := 6) rfl rfl (by decide) rfl (by omega) (by omega) dX3_addWord_15 ?_
    refine J_if_ne (tgt := 32) hC (by first | with_reducible assumption | exact zR_mk (by omega) (by omega)) dX3_addWord_16 rfl (fun c16 => ?_) (fun c16 => ?_)
    · refine J_iconst hC dX3_addWord_32 ?_
      exact h33 0 (Or.inr ⟨rfl, by omega⟩)
    · refine J_aload_n hC dX3_addWord_19 rfl ?_
      refine Jm_get hC 7 (by decide) q928 rfl rfl dX3_addWord_20 ?_
      refine J_bipush hC dX3_addWord_23 (by decide) ?_
      refine J_icmp_ge (tgt := 32) hC (by first | with_reducible assumption | exact zR_mk (by omega) (by omega)) (by first | with_reducible assumption | exact zR_mk (by omega) (by omega)) dX3_addWord_25 rfl (fun c25 => ?_) (fun c25 => ?_)
      · refine J_iconst hC dX3_addWord_32 ?_
        exact h33 0 (Or.inr ⟨rfl, by omega⟩)
      · refine J_iconst hC dX3_addWord_28 ?_
        refine J_goto (tgt := 33) hC dX3_addWord_29 rfl ?_
        exact h33 1 (Or.inl ⟨rfl, by omega, by omega⟩)
