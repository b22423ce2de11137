/-! THE MODEL, its small methods -/
set_option maxRecDepth 100000
theorem m_thrown {g : jG} {l : Launch} {x : Nat} {AD : Nat → Nat} {F : mF} (hnt : l.stackTraces = false) (hD : mD x AD)  : mMi g l x AD yX3_thrown (ws_ yX3_thrown cX3_thrown 1 (some .int)) (jr 0 0 0) [.ref x] F (fun r F' => r = F 0 0 ∧ F' = F) := by
  refine mM_of (L0 := [some (.ref x)]) hnt (by decide +kernel) rfl (Nat.le_of_ble_eq_true rfl) rfl rfl ?_
  intro Θ hΘ p e s m args below meth c A Q hC hQ
  refine J_aload_n hC dX3_thrown_0 rfl ?_
  refine Jm_get hC 0 (by decide) q921 rfl rfl dX3_thrown_1 ?_
  refine Jm_iret hC hQ  ⟨_, rfl, ?_⟩ dX3_thrown_4
  exact ⟨rfl, rfl⟩
theorem m_holds {g : jG} {l : Launch} {x : Nat} {AD : Nat → Nat} {F : mF} (hnt : l.stackTraces = false) (hD : mD x AD) (a : Int) (ha : zR a) : mMi g l x AD yX3_holds (ws_ yX3_holds cX3_holds 2 (some .boolean)) (jr 0 0 0) [.ref x, .int (zI (a))] F (fun r F' => (r = 1 ∧ a = 0 ∨ r = 0 ∧ ¬ a = 0) ∧ F' = upF F 0 0 a) := by
  refine mM_of (L0 := [some (.ref x), some (.int (zI (a)))]) hnt (by decide +kernel) rfl (Nat.le_of_ble_eq_true rfl) rfl rfl ?_
  intro Θ hΘ p e s m args below meth c A Q hC hQ
  refine J_aload_n hC dX3_holds_0 rfl ?_
  refine J_iload_n hC dX3_holds_1 rfl ?_
  refine Jm_put hC hD hΘ 0 rfl q921 rfl (by decide) dX3_holds_2 ?_
  refine J_iload_n hC dX3_holds_5 rfl ?_
  refine J_if_ne (tgt := 13) hC (by first | with_reducible assumption | exact zR_mk (by omega) (by omega)) dX3_holds_6 rfl (fun c6 => ?_) (fun c6 => ?_)
  · refine J_iconst hC dX3_holds_13 ?_
    refine Jm_zret hC hQ (by omega) ⟨_, rfl, ?_⟩ dX3_holds_14
    exact ⟨Or.inr ⟨rfl, c6⟩, rfl⟩
  · refine J_iconst hC dX3_holds_9 ?_
    refine J_goto (tgt := 14) hC dX3_holds_10 rfl ?_
    refine Jm_zret hC hQ (by omega) ⟨_, rfl, ?_⟩ dX3_holds_14
    exact ⟨Or.inl ⟨rfl, c6⟩, rfl⟩
theorem m_isParagraph {g : jG} {l : Launch} {x : Nat} {AD : Nat → Nat} {F : mF} (hnt : l.stackTraces = false) (hD : mD x AD) (a : Int) (ha : zR a) (h3 : 0 ≤ F 3 0 ∧ F 3 0 ≤ 6) : mMi g l x AD yX3_isParagraph (ws_ yX3_isParagraph cX3_isParagraph 2 (some .boolean)) (jr 1 0 0) [.ref x, .int (zI (a))] F (fun r F' => (r = 1 ∧ 0 ≤ a ∧ a ≤ F 3 0 - 1 ∨ r = 0 ∧ ¬ (0 ≤ a ∧ a ≤ F 3 0 - 1)) ∧ F' = F) := by
  refine mM_of (L0 := [some (.ref x), some (.int (zI (a)))]) hnt (by decide +kernel) rfl (Nat.le_of_ble_eq_true rfl) rfl rfl ?_
  intro Θ hΘ p e s m args below meth c A Q hC hQ
  refine J_iload_n hC dX3_isParagraph_0 rfl ?_
  refine J_iconst hC dX3_isParagraph_1 ?_
  refine J_aload_n hC dX3_isParagraph_2 rfl ?_
  refine Jm_get hC 3 (by decide) q924 rfl rfl dX3_isParagraph_3 ?_
  refine J_iconst hC dX3_isParagraph_6 ?_
  refine J_isub hC dX3_isParagraph_7 ?_
  refine Jm_isIn hC (lw_S q1006 q1007 q61 q1008) ⟨(Nat.le_of_ble_eq_true rfl), (Nat.le_of_ble_eq_true rfl)⟩ ha (zR_mk (by omega) (by omega)) (zR_mk (by omega) (by omega)) rfl (Nat.le_of_ble_eq_true rfl) dX3_isParagraph_8 (fun b8 hb8 => ?_)
  refine Jm_zret hC hQ (by omega) ⟨_, rfl, ?_⟩ dX3_isParagraph_11
  exact ⟨hb8, rfl⟩
theorem m_isWord {g : jG} {l : Launch} {x : Nat} {AD : Nat → Nat} {F : mF} (hnt : l.stackTraces = false) (hD : mD x AD) (a : Int) (ha : zR a) (h3 : 0 ≤ F 7 0 ∧ F 7 0 ≤ 60) : mMi g l x AD yX3_isWord (ws_ yX3_isWord cX3_isWord 2 (some .boolean)) (jr 1 0 0) [.ref x, .int (zI (a))] F (fun r F' => (r = 1 ∧ 0 ≤ a ∧ a ≤ F 7 0 - 1 ∨ r = 0 ∧ ¬ (0 ≤ a ∧ a ≤ F 7 0 - 1)) ∧ F' = F) := by
  refine mM_of (L0 := [some (.ref x), some (.int (zI (a)))]) hnt (by decide +kernel) rfl (Nat.le_of_ble_eq_true rfl) rfl rfl ?_
  intro Θ hΘ p e s m args below meth c A Q hC hQ
  refine J_iload_n hC dX3_isWord_0 rfl ?_
  refine J_iconst hC dX3_isWord_1 ?_
  refine J_aload_n hC dX3_isWord_2 rfl ?_
  refine Jm_get hC 7 (by decide) q928 rfl rfl dX3_isWord_3 ?_
  refine J_iconst hC dX3_isWord_6 ?_
  refine J_isub hC dX3_isWord_7 ?_
  refine Jm_isIn hC (lw_S q1006 q1007 q61 q1008) ⟨(Nat.le_of_ble_eq_true rfl), (Nat.le_of_ble_eq_true rfl)⟩ ha (zR_mk (by omega) (by omega)) (zR_mk (by omega) (by omega)) rfl (Nat.le_of_ble_eq_true rfl) dX3_isWord_8 (fun b8 hb8 => ?_)
  refine Jm_zret hC hQ (by omega) ⟨_, rfl, ?_⟩ dX3_isWord_11
  exact ⟨hb8, rfl⟩
theorem m_isError {g : jG} {l : Launch} {x : Nat} {AD : Nat → Nat} {F : mF} (hnt : l.stackTraces = false) (hD : mD x AD) (a : Int) (ha : zR a) (h3 : 0 ≤ F 17 0 ∧ F 17 0 ≤ 30) : mMi g l x AD yX3_isError (ws_ yX3_isError cX3_isError 2 (some .boolean)) (jr 1 0 0) [.ref x, .int (zI (a))] F (fun r F' => (r = 1 ∧ 0 ≤ a ∧ a ≤ F 17 0 - 1 ∨ r = 0 ∧ ¬ (0 ≤ a ∧ a ≤ F 17 0 - 1)) ∧ F' = F) := by
  refine mM_of (L0 := [some (.ref x), some (.int (zI (a)))]) hnt (by decide +kernel) rfl (Nat.le_of_ble_eq_true rfl) rfl rfl ?_
  intro Θ hΘ p e s m args below meth c A Q hC hQ
  refine J_iload_n hC dX3_isError_0 rfl ?_
  refine J_iconst hC dX3_isError_1 ?_
  refine J_aload_n hC dX3_isError_2 rfl ?_
  refine Jm_get hC 17 (by decide) q938 rfl rfl dX3_isError_3 ?_
  refine J_iconst hC dX3_isError_6 ?_
  refine J_isub hC dX3_isError_7 ?_
  refine Jm_isIn hC (lw_S q1006 q1007 q61 q1008) ⟨(Nat.le_of_ble_eq_true rfl), (Nat.le_of_ble_eq_true rfl)⟩ ha (zR_mk (by omega) (by omega)) (zR_mk (by omega) (by omega)) rfl (Nat.le_of_ble_eq_true rfl) dX3_isError_8 (fun b8 hb8 => ?_)
  refine Jm_zret hC hQ (by omega) ⟨_, rfl, ?_⟩ dX3_isError_11
  exact ⟨hb8, rfl⟩
theorem m_word {g : jG} {l : Launch} {x : Nat} {AD : Nat → Nat} {F : mF} (hnt : l.stackTraces = false) (hD : mD x AD) (a b : Int) (ha : 0 ≤ a ∧ a < 6) (hb : 0 ≤ b ∧ b < 60) : mMi g l x AD yX3_word (ws_ yX3_word cX3_word 3 (some .int)) (jr 0 0 0) [.ref x, .int (zI (a)), .int (zI (b))] F (fun r F' => r = F 6 (60 * a + b) ∧ F' = F) := by
  refine mM_of (L0 := [some (.ref x), some (.int (zI (a))), some (.int (zI (b)))]) hnt (by decide +kernel) rfl (Nat.le_of_ble_eq_true rfl) rfl rfl ?_
  intro Θ hΘ p e s m args below meth c A Q hC hQ
  refine J_aload_n hC dX3_word_0 rfl ?_
  refine Jm_get hC 6 (by decide) q927 rfl rfl dX3_word_1 ?_
  refine J_bipush hC dX3_word_4 (by decide) ?_
  refine J_iload_n hC dX3_word_6 rfl ?_
  refine J_imul hC dX3_word_7 ?_
  refine J_iload_n hC dX3_word_8 rfl ?_
  refine J_iadd hC dX3_word_9 ?_
  refine Jm_iald hC 6 (n := 360) rfl rfl (by decide) rfl (by omega) (by omega) dX3_word_10 ?_
  refine Jm_iret hC hQ  ⟨_, rfl, ?_⟩ dX3_word_11
  exact ⟨rfl, rfl⟩
theorem m_words {g : jG} {l : Launch} {x : Nat} {AD : Nat → Nat} {F : mF} (hnt : l.stackTraces = false) (hD : mD x AD)  : mMi g l x AD yX3_words (ws_ yX3_words cX3_words 1 (some .int)) (jr 0 0 0) [.ref x] F (fun r F' => r = F 7 0 ∧ F' = upF F 0 0 0) := by
  refine mM_of (L0 := [some (.ref x)]) hnt (by decide +kernel) rfl (Nat.le_of_ble_eq_true rfl) rfl rfl ?_
  intro Θ hΘ p e s m args below meth c A Q hC hQ
  refine J_aload_n hC dX3_words_0 rfl ?_
  refine J_iconst hC dX3_words_1 ?_
  refine Jm_put hC hD hΘ 0 rfl q921 rfl (by decide) dX3_words_2 ?_
  refine J_aload_n hC dX3_words_5 rfl ?_
  refine Jm_get hC 7 (by decide) q928 rfl rfl dX3_words_6 ?_
  refine Jm_iret hC hQ  ⟨_, rfl, ?_⟩ dX3_words_9
  exact ⟨rfl, rfl⟩
theorem m_addParagraph {g : jG} {l : Launch} {x : Nat} {AD : Nat → Nat} {F : mF} (hnt : l.stackTraces = false) (hD : mD x AD) (h3 : 0 ≤ F 3 0 ∧ F 3 0 ≤ 6) : mMi g l x AD yX3_addParagraph (ws_ yX3_addParagraph cX3_addParagraph 1 (some .int)) (jr 1 0 0) [.ref x] F (fun r F' => (F 3 0 = 6 ∧ F' = upF F 0 0 1) ∨ (¬ F 3 0 = 6 ∧ r = F 3 0 ∧ F' = upF (upF F 0 0 0) 3 0 (F 3 0 + 1))) := by
  refine mM_of (L0 := [some (.ref x)]) hnt (by decide +kernel) rfl (Nat.le_of_ble_eq_true rfl) rfl rfl ?_
  intro Θ hΘ p e s m args below meth c A Q hC hQ
  refine J_aload_n hC dX3_addParagraph_0 rfl ?_
  refine J_aload_n hC dX3_addParagraph_1 rfl ?_
  refine Jm_get hC 3 (by decide) q924 rfl rfl dX3_addParagraph_2 ?_
  refine J_bipush hC dX3_addParagraph_5 (by decide) ?_
  refine J_icmp_ne (tgt := 14) hC (by first | with_reducible assumption | exact zR_mk (by omega) (by omega)) (by first | with_reducible assumption | exact zR_mk (by omega) (by omega)) dX3_addParagraph_7 rfl (fun c7 => ?_) (fun c7 => ?_)
  · have h15 : ∀ b : Int, b = 0 → J p l e (jr 1 0 0) s m args below meth c A Q (mP g x AD Θ (F) A) 0 0 15 [some (.ref x)] [.int (zI b), .ref x] := by
      intro b hb
      refine Jm_callVi (n := 1) hC hΘ (m_holds hnt hD b (zR_mk (by omega) (by omega))) (lw_V q994 q996 qs16 q61 q997) ⟨rfl, by decide +kernel⟩ ⟨(Nat.le_of_ble_eq_true rfl), (Nat.le_of_ble_eq_true rfl)⟩ rfl rfl rfl rfl (Nat.le_of_ble_eq_true rfl) dX3_addParagraph_15 ?_
      intro r F9 hr9
      obtain ⟨hr9, e9⟩ := hr9
      rw [e9]
      refine J_if_ne (tgt := 23) hC (by first | with_reducible assumption | exact zR_mk (by omega) (by omega)) dX3_addParagraph_18 rfl (fun c18 => ?_) (fun c18 => ?_)
      · refine J_aload_n hC dX3_addParagraph_23 rfl ?_
        refine J_dup hC dX3_addParagraph_24 rfl ?_
        refine Jm_get hC 3 (by decide) q924 rfl rfl dX3_addParagraph_25 ?_
        refine J_iconst hC dX3_addParagraph_28 ?_
        refine J_iadd hC dX3_addParagraph_29 ?_
        refine Jm_put hC hD hΘ 3 rfl q924 rfl (by decide) dX3_addParagraph_30 ?_
        refine J_aload_n hC dX3_addParagraph_33 rfl ?_
        refine Jm_get hC 3 (by decide) q924 rfl rfl dX3_addParagraph_34 ?_
        refine J_iconst hC dX3_addParagraph_37 ?_
        refine J_isub hC dX3_addParagraph_38 ?_
        refine Jm_iret hC hQ  ⟨_, rfl, ?_⟩ dX3_addParagraph_39
        refine Or.inr ⟨c7, ?_, ?_⟩
        · show F 3 0 + 1 - 1 = F 3 0
          omega
        · rw [hb]; rfl
      · omega
    refine J_iconst hC dX3_addParagraph_14 ?_
    exact h15 0 rfl
  · refine J_iconst hC dX3_addParagraph_10 ?_
    refine J_goto (tgt := 15) hC dX3_addParagraph_11 rfl ?_
    refine Jm_callVi (n := 1) hC hΘ (m_holds hnt hD 1 (zR_mk (by omega) (by omega))) (lw_V q994 q996 qs16 q61 q997) ⟨rfl, by decide +kernel⟩ ⟨(Nat.le_of_ble_eq_true rfl), (Nat.le_of_ble_eq_true rfl)⟩ rfl rfl rfl rfl (Nat.le_of_ble_eq_true rfl) dX3_addParagraph_15 ?_
    intro r F9 hr9
    obtain ⟨hr9, e9⟩ := hr9
    rw [e9]
    refine J_if_ne (tgt := 23) hC (by first | with_reducible assumption | exact zR_mk (by omega) (by omega)) dX3_addParagraph_18 rfl (fun c18 => ?_) (fun c18 => ?_)
    · omega
    · refine J_iconst hC dX3_addParagraph_21 ?_
      refine Jm_iret hC hQ  ⟨_, rfl, ?_⟩ dX3_addParagraph_22
      exact Or.inl ⟨c7, rfl⟩
