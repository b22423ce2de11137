/-! THE MODEL: canEnd, badnessOf, ahead, finds, breaks -/
set_option maxRecDepth 100000
theorem m_canEnd {g : jG} {l : Launch} {x : Nat} {AD : Nat → Nat} {F : mF} (hnt : l.stackTraces = false) (hD : mD x AD) (a b : Int) (ha : 0 ≤ a ∧ a < 60) (hb : 0 ≤ b ∧ b ≤ 15) (h8 : zR (F 8 a)) (h11 : zR (F 11 (16 * a + b))) : mMi g l x AD yX3_canEnd (ws_ yX3_canEnd cX3_canEnd 3 (some .boolean)) (jr 0 0 0) [.ref x, .int (zI (a)), .int (zI (b))] F (fun r F' => (r = 1 ∧ (b = F 8 a ∨ 0 < F 11 (16 * a + b)) ∨ r = 0 ∧ ¬ (b = F 8 a ∨ 0 < F 11 (16 * a + b))) ∧ F' = F) := by
  refine mM_of (L0 := [some (.ref x), some (.int (zI (a))), some (.int (zI (b)))]) hnt (by decide +kernel) rfl (Nat.le_of_ble_eq_true rfl) rfl rfl ?_
  intro Θ hΘ p e s m args below meth c A Q hC hQ
  refine J_iload_n hC dX3_canEnd_0 rfl ?_
  refine J_aload_n hC dX3_canEnd_1 rfl ?_
  refine Jm_get hC 8 (by decide) q929 rfl rfl dX3_canEnd_2 ?_
  refine J_iload_n hC dX3_canEnd_5 rfl ?_
  refine Jm_iald hC 8 (n := 60) rfl rfl (by decide) rfl (by omega) (by omega) dX3_canEnd_6 ?_
  refine J_icmp_eq (tgt := 24) hC (by first | with_reducible assumption | exact zR_mk (by omega) (by omega)) (by first | with_reducible assumption | exact zR_mk (by omega) (by omega)) dX3_canEnd_7 rfl (fun c7 => ?_) (fun c7 => ?_)
  · refine J_iconst hC dX3_canEnd_24 ?_
    refine J_goto (tgt := 29) hC dX3_canEnd_25 rfl ?_
    refine Jm_zret hC hQ (by omega) ⟨_, rfl, ?_⟩ dX3_canEnd_29
    exact ⟨Or.inl ⟨rfl, Or.inl c7⟩, rfl⟩
  · refine J_aload_n hC dX3_canEnd_10 rfl ?_
    refine Jm_get hC 11 (by decide) q932 rfl rfl dX3_canEnd_11 ?_
    refine J_bipush hC dX3_canEnd_14 (by decide) ?_
    refine J_iload_n hC dX3_canEnd_16 rfl ?_
    refine J_imul hC dX3_canEnd_17 ?_
    refine J_iload_n hC dX3_canEnd_18 rfl ?_
    refine J_iadd hC dX3_canEnd_19 ?_
    refine Jm_iald hC 11 (n := 960) rfl rfl (by decide) rfl (by omega) (by omega) dX3_canEnd_20 ?_
    refine J_if_le (tgt := 28) hC (by first | with_reducible assumption | exact zR_mk (by omega) (by omega)) dX3_canEnd_21 rfl (fun c21 => ?_) (fun c21 => ?_)
    · refine J_iconst hC dX3_canEnd_28 ?_
      refine Jm_zret hC hQ (by omega) ⟨_, rfl, ?_⟩ dX3_canEnd_29
      exact ⟨Or.inr ⟨rfl, by omega⟩, rfl⟩
    · refine J_iconst hC dX3_canEnd_24 ?_
      refine J_goto (tgt := 29) hC dX3_canEnd_25 rfl ?_
      refine Jm_zret hC hQ (by omega) ⟨_, rfl, ?_⟩ dX3_canEnd_29
      exact ⟨Or.inl ⟨rfl, by omega⟩, rfl⟩
theorem m_badnessOf {g : jG} {l : Launch} {x : Nat} {AD : Nat → Nat} {F : mF} (hnt : l.stackTraces = false) (hD : mD x AD) (a b c1 : Int) (hw : 10 ≤ F 1 0 ∧ F 1 0 ≤ 60) (ha : 0 ≤ a ∧ a ≤ 1000) (hb : b = 0 ∨ b = 1) (hc : c1 = 0 ∨ c1 = 1) : mMi g l x AD yX3_badnessOf (ws_ yX3_badnessOf cX3_badnessOf 6 (some .int)) (jr 0 0 0) [.ref x, .int (zI (a)), .int (zI (b)), .int (zI (c1))] F (fun r F' => r = (if c1 = 1 then (if a ≤ F 1 0 then 0 else 10000) else (if a ≤ F 1 0 then (F 1 0 - a) * (F 1 0 - a) else 10000) + (if b = 1 then 30 else 0)) ∧ F' = F) := by
  refine mM_of (L0 := [some (.ref x), some (.int (zI (a))), some (.int (zI (b))), some (.int (zI (c1))), none, none]) hnt (by decide +kernel) rfl (Nat.le_of_ble_eq_true rfl) rfl rfl ?_
  intro Θ hΘ p e s m args below meth c A Q hC hQ
  have h24 : ∀ v : Int, v = (if a ≤ F 1 0 then (F 1 0 - a) * (F 1 0 - a) else 10000) → J p l e (jr 0 0 0) s m args below meth c A Q (mP g x AD Θ (F) A) 0 0 24 [some (.ref x), some (.int (zI (a))), some (.int (zI (b))), some (.int (zI (c1))), some (.int (zI (F 1 0 - a))), none] [.int (zI v)] := by
    intro v hv
    refine J_istore hC dX3_badnessOf_24 (Nat.le_of_ble_eq_true rfl) ?_
    refine J_iload_n hC dX3_badnessOf_26 rfl ?_
    refine J_if_eq (tgt := 45) hC (by first | with_reducible assumption | exact zR_mk (by omega) (by omega)) dX3_badnessOf_27 rfl (fun c27 => ?_) (fun c27 => ?_)
    · refine J_iload hC dX3_badnessOf_45 rfl ?_
      refine J_iload_n hC dX3_badnessOf_47 rfl ?_
      refine J_if_eq (tgt := 56) hC (by first | with_reducible assumption | exact zR_mk (by omega) (by omega)) dX3_badnessOf_48 rfl (fun c48 => ?_) (fun c48 => ?_)
      · refine J_iconst hC dX3_badnessOf_56 ?_
        refine J_iadd hC dX3_badnessOf_57 ?_
        refine Jm_iret hC hQ  ⟨_, rfl, ?_⟩ dX3_badnessOf_58
        refine ⟨?_, rfl⟩
        rw [if_neg (show ¬ c1 = 1 by omega), if_neg (show ¬ b = 1 by omega), hv]
      · refine J_bipush hC dX3_badnessOf_51 (by decide) ?_
        refine J_goto (tgt := 57) hC dX3_badnessOf_53 rfl ?_
        refine J_iadd hC dX3_badnessOf_57 ?_
        refine Jm_iret hC hQ  ⟨_, rfl, ?_⟩ dX3_badnessOf_58
        refine ⟨?_, rfl⟩
        rw [if_neg (show ¬ c1 = 1 by omega), if_pos (show b = 1 by omega), hv]
    · refine J_iload hC dX3_badnessOf_30 rfl ?_
      refine J_if_lt (tgt := 39) hC (by first | with_reducible assumption | exact zR_mk (by omega) (by omega)) dX3_badnessOf_32 rfl (fun c32 => ?_) (fun c32 => ?_)
      · refine J_sipush hC dX3_badnessOf_39 (by decide) ?_
        refine J_goto (tgt := 58) hC dX3_badnessOf_42 rfl ?_
        refine Jm_iret hC hQ  ⟨_, rfl, ?_⟩ dX3_badnessOf_58
        refine ⟨?_, rfl⟩
        rw [if_pos (show c1 = 1 by omega), if_neg (show ¬ a ≤ F 1 0 by omega)]
      · refine J_iconst hC dX3_badnessOf_35 ?_
        refine J_goto (tgt := 58) hC dX3_badnessOf_36 rfl ?_
        refine Jm_iret hC hQ  ⟨_, rfl, ?_⟩ dX3_badnessOf_58
        refine ⟨?_, rfl⟩
        rw [if_pos (show c1 = 1 by omega), if_pos (show a ≤ F 1 0 by omega)]
  refine J_aload_n hC dX3_badnessOf_0 rfl ?_
  refine Jm_get hC 1 (by decide) q922 rfl rfl dX3_badnessOf_1 ?_
  refine J_iload_n hC dX3_badnessOf_4 rfl ?_
  refine J_isub hC dX3_badnessOf_5 ?_
  refine J_istore hC dX3_badnessOf_6 (Nat.le_of_ble_eq_true rfl) ?_
  refine J_iload hC dX3_badnessOf_8 rfl ?_
  refine J_if_lt (tgt := 21) hC (by first | with_reducible assumption | exact zR_mk (by omega) (by omega)) dX3_badnessOf_10 rfl (fun c10 => ?_) (fun c10 => ?_)
  · refine J_sipush hC dX3_badnessOf_21 (by decide) ?_
    exact h24 _ (by rw [if_neg (by omega)])
  · refine J_iload hC dX3_badnessOf_13 rfl ?_
    refine J_iload hC dX3_badnessOf_15 rfl ?_
    refine J_imul hC dX3_badnessOf_17 ?_
    refine J_goto (tgt := 24) hC dX3_badnessOf_18 rfl ?_
    exact h24 _ (by rw [if_pos (by omega)])
theorem m_ahead {g : jG} {l : Launch} {x : Nat} {AD : Nat → Nat} {F : mF} (hnt : l.stackTraces = false) (hD : mD x AD) (a : Int) (ha : 0 ≤ a ∧ a ≤ 6) : mMi g l x AD yX3_ahead (ws_ yX3_ahead cX3_ahead 4 (some .int)) (jr 0 0 0) [.ref x, .int (zI (a))] F (fun r F' => r = sI (F 16) a ∧ F' = F) := by
  refine mM_of (L0 := [some (.ref x), some (.int (zI (a))), none, none]) hnt (by decide +kernel) rfl (Nat.le_of_ble_eq_true rfl) rfl rfl ?_
  intro Θ hΘ p e s m args below meth c A Q hC hQ
  have loop : ∀ (n : Nat) (k s0 : Int), 0 ≤ k → k ≤ a → a - k < n → s0 = sI (F 16) k → J p l e (jr 0 0 0) s m args below meth c A Q (mP g x AD Θ (F) A) 0 0 4 [some (.ref x), some (.int (zI (a))), some (.int (zI (s0))), some (.int (zI (k)))] [] := by
    intro n
    induction n with
    | zero => intro k s0 h1 h2 h3; omega
    | succ n ih =>
      intro k s0 h1 h2 h3 hs
      refine J_iload_n hC dX3_ahead_4 rfl ?_
      refine J_iload_n hC dX3_ahead_5 rfl ?_
      refine J_icmp_ge (tgt := 24) hC (by first | with_reducible assumption | exact zR_mk (by omega) (by omega)) (by first | with_reducible assumption | exact zR_mk (by omega) (by omega)) dX3_ahead_6 rfl (fun c6 => ?_) (fun c6 => ?_)
      · refine J_iload_n hC dX3_ahead_24 rfl ?_
        refine Jm_iret hC hQ  ⟨_, rfl, ?_⟩ dX3_ahead_25
        exact ⟨by rw [hs, show k = a by omega], rfl⟩
      · refine J_iload_n hC dX3_ahead_9 rfl ?_
        refine J_aload_n hC dX3_ahead_10 rfl ?_
        refine Jm_get hC 16 (by decide) q937 rfl rfl dX3_ahead_11 ?_
        refine J_iload_n hC dX3_ahead_14 rfl ?_
        refine Jm_iald hC 16 (n := 6) rfl rfl (by decide) rfl (by omega) (by omega) dX3_ahead_15 ?_
        refine J_iadd hC dX3_ahead_16 ?_
        refine J_istore_n (i := 2) hC dX3_ahead_17 rfl (Nat.le_of_ble_eq_true rfl) ?_
        refine J_iinc hC dX3_ahead_18 rfl (Nat.le_of_ble_eq_true rfl) ?_
        refine J_goto (tgt := 4) hC dX3_ahead_21 rfl ?_
        exact ih (k + 1) _ (by omega) (by omega) (by omega) (by rw [hs, sI_succ _ h1])
  refine J_iconst hC dX3_ahead_0 ?_
  refine J_istore_n (i := 2) hC dX3_ahead_1 rfl (Nat.le_of_ble_eq_true rfl) ?_
  refine J_iconst hC dX3_ahead_2 ?_
  refine J_istore_n (i := 3) hC dX3_ahead_3 rfl (Nat.le_of_ble_eq_true rfl) ?_
  exact loop (a + 1).toNat 0 0 (Int.le_refl 0) ha.1 (by omega) rfl
set_option maxHeartbeats 4000000 in
theorem m_finds {g : jG} {l : Launch} {x : Nat} {AD : Nat → Nat} {F : mF} (hnt : l.stackTraces = false) (hD : mD x AD) (a fr pl : Int) (hp : mOk F a) (hfr : 0 ≤ fr ∧ fr < F 5 a) (hpl : 0 ≤ pl ∧ pl < F 8 (F 6 (60 * a + fr))) (hsp : isSp (mq F a) (16 * fr + pl)) (hls : ∀ u, isSp (mq F a) u → 16 * fr + pl < u → 0 ≤ F 14 u ∧ F 14 u ≤ 10030 * (16 * F 5 a - u)) : mMv g l x AD yX3_finds (ws_ yX3_finds cX3_finds 15 none) (jr 1 0 0) [.ref x, .int (zI (a)), .int (zI (fr)), .int (zI (pl))] F (fun F' => ∃ a1 b1, F' = fF F (16 * fr + pl) a1 b1 ∧ bestAt (mq F a) (upI (F 14) (16 * fr + pl) a1) (upI (F 15) (16 * fr + pl) b1) (16 * fr + pl)) := by
  refine mM_of (L0 := [some (.ref x), some (.int (zI (a))), some (.int (zI (fr))), some (.int (zI (pl))), none, none, none, none, none, none, none, none, none, none, none]) hnt (by decide +kernel) rfl (Nat.le_of_ble_eq_true rfl) rfl rfl ?_
  intro Θ hΘ p e s m args below meth c A Q hC hQ
  obtain ⟨t, ht⟩ : ∃ t, t = 16 * fr + pl := ⟨_, rfl⟩
  rw [← ht] at hsp hls hQ
  have hq := mOk_p hp
  obtain ⟨hp1, hp2, hp3, hp4, hp5⟩ := hp
  have hfr3 := hp3 fr hfr.1 hfr.2
  have hN : pN (mq F a) = F 5 a := rfl
  have hW : pW (mq F a) = F 1 0 := rfl
  have loop : ∀ (n : Nat) (k bh go fi a1 b1 v : Int), fr ≤ k → k ≤ F 5 a → F 5 a - k < n → (k = fr ∧ v = t ∧ bh = -pl ∨ fr < k ∧ v = 16 * k ∧ bh = sI (pL (mq F a)) k - sI (pL (mq F a)) fr - pl + (k - 1 - fr)) → fnd (mq F a) (F 14) t v fi go a1 b1 → J p l e (jr 1 0 0) s m args below meth c A Q (mP g x AD Θ (fF F t a1 b1) A) 0 0 30 [some (.ref x), some (.int (zI (a))), some (.int (zI (fr))), some (.int (zI (pl))), some (.int (zI (t))), some (.int (zI (bh))), some (.int (zI (go))), some (.int (zI (fi))), some (.int (zI (k))), none, none, none, none, none, none] [] := by
    intro n
    induction n with
    | zero => intro k bh go fi a1 b1 v h1 h2 h3; omega
    | succ n ih =>
      intro k bh go fi a1 b1 v h1 h2 h3 hv hf
      have hgo := fnd_go hf
      have stop : (v = 16 * pN (mq F a) ∨ go = 0) → J p l e (jr 1 0 0) s m args below meth c A Q (mP g x AD Θ (fF F t a1 b1) A) 0 0 296 [some (.ref x), some (.int (zI (a))), some (.int (zI (fr))), some (.int (zI (pl))), some (.int (zI (t))), some (.int (zI (bh))), some (.int (zI (go))), some (.int (zI (fi))), some (.int (zI (k))), none, none, none, none, none, none] [] := by
        intro hend
        refine Jm_vret hC hQ ⟨rfl, ?_⟩ dX3_finds_296
        exact ⟨a1, b1, rfl, fnd_end hf (by rw [hN]; omega) hend hq⟩
      refine J_iload hC dX3_finds_30 rfl ?_
      refine J_aload_n hC dX3_finds_32 rfl ?_
      refine Jm_get hC 5 (by decide) q926 rfl rfl dX3_finds_33 ?_
      refine J_iload_n hC dX3_finds_36 rfl ?_
      refine Jm_iald hC 5 (n := 6) (v := F 5 a) rfl rfl (by decide) rfl (by omega) (by omega) dX3_finds_37 ?_
      refine J_icmp_ge (tgt := 296) hC (by first | with_reducible assumption | exact zR_mk (by omega) (by omega)) (by first | with_reducible assumption | exact zR_mk (by omega) (by omega)) dX3_finds_38 rfl (fun c38 => ?_) (fun c38 => ?_)
      · exact stop (Or.inl (by rw [hN]; omega))
      · refine J_iload hC dX3_finds_41 rfl ?_
        refine J_if_eq (tgt := 296) hC (by first | with_reducible assumption | exact zR_mk (by omega) (by omega)) dX3_finds_43 rfl (fun c43 => ?_) (fun c43 => ?_)
        · exact stop (Or.inr c43)
        · have hk3 := hp3 k (by omega) (by omega)
          have hgo1 : go = 1 := by omega
          subst hgo1
          obtain ⟨wd, hwd⟩ : ∃ wd, wd = F 6 (60 * a + k) := ⟨_, rfl⟩
          obtain ⟨Lk, hLk⟩ : ∃ z, z = F 8 (F 6 (60 * a + k)) := ⟨_, rfl⟩
          have hLq : pL (mq F a) k = Lk := by rw [hLk]; rfl
          rw [← hLk] at hk3
          rw [← hwd] at hk3 hLk
          -- behind the word k
          have tail : ∀ (b0 go fi a1 b1 e0 : Int), b0 = sI (pL (mq F a)) k - sI (pL (mq F a)) fr - pl + (k - fr) → fnd (mq F a) (F 14) t (16 * (k + 1)) fi go a1 b1 → J p l e (jr 1 0 0) s m args below meth c A Q (mP g x AD Θ (fF F t a1 b1) A) 0 0 278 [some (.ref x), some (.int (zI (a))), some (.int (zI (fr))), some (.int (zI (pl))), some (.int (zI (t))), some (.int (zI (b0))), some (.int (zI (go))), some (.int (zI (fi))), some (.int (zI (k))), some (.int (zI (wd))), none, none, none, none, none] [] := by
            intro b0 go fi a1 b1 e0 hb0 hf
            refine J_iload hC dX3_finds_278 rfl ?_
            refine J_aload_n hC dX3_finds_280 rfl ?_
            refine Jm_get hC 8 (by decide) q929 rfl rfl dX3_finds_281 ?_
            refine J_iload hC dX3_finds_284 rfl ?_
            refine Jm_iald hC 8 (n := 60) (v := Lk) hLk.symm rfl (by decide) rfl (by omega) (by omega) dX3_finds_286 ?_
            refine J_iadd hC dX3_finds_287 ?_
            refine J_istore hC dX3_finds_288 (Nat.le_of_ble_eq_true rfl) ?_
            refine J_iinc hC dX3_finds_290 rfl (Nat.le_of_ble_eq_true rfl) ?_
            refine J_goto (tgt := 30) hC dX3_finds_293 rfl ?_
            refine J_forget (L' := [some (.ref x), some (.int (zI (a))), some (.int (zI (fr))), some (.int (zI (pl))), some (.int (zI (t))), some (.int (zI (b0 + Lk))), some (.int (zI (go))), some (.int (zI (fi))), some (.int (zI (k + 1))), none, none, none, none, none, none]) (by simp [jle]) ?_
            exact ih (k + 1) (b0 + Lk) go fi a1 b1 (16 * (k + 1)) (by omega) (by omega) (by omega) (Or.inr ⟨by omega, rfl, by rw [sI_succ _ (by omega), hLq, hb0]; omega⟩) hf
          have inner : ∀ (n2 : Nat) (b0 go fi a1 b1 e0 v : Int), b0 = sI (pL (mq F a)) k - sI (pL (mq F a)) fr - pl + (k - fr) → 1 ≤ e0 → e0 ≤ Lk + 1 → Lk + 1 - e0 < n2 → t ≤ v → (e0 ≤ Lk ∧ v = 16 * k + e0 - 1 ∨ e0 = Lk + 1 ∧ v = 16 * (k + 1)) → fnd (mq F a) (F 14) t v fi go a1 b1 → J p l e (jr 1 0 0) s m args below meth c A Q (mP g x AD Θ (fF F t a1 b1) A) 0 0 86 [some (.ref x), some (.int (zI (a))), some (.int (zI (fr))), some (.int (zI (pl))), some (.int (zI (t))), some (.int (zI (b0))), some (.int (zI (go))), some (.int (zI (fi))), some (.int (zI (k))), some (.int (zI (wd))), some (.int (zI (e0))), none, none, none, none] [] := by
            intro n2
            induction n2 with
            | zero => intro b0 go fi a1 b1 e0 v _ g1 g2 g3; omega
            | succ n2 ih2 =>
              intro b0 go fi a1 b1 e0 v hb0 g1 g2 g3 gt gv gf
              have hgo := fnd_go gf
              refine J_iload hC dX3_finds_86 rfl ?_
              refine J_aload_n hC dX3_finds_88 rfl ?_
              refine Jm_get hC 8 (by decide) q929 rfl rfl dX3_finds_89 ?_
              refine J_iload hC dX3_finds_92 rfl ?_
              refine Jm_iald hC 8 (n := 60) (v := Lk) hLk.symm rfl (by decide) rfl (by omega) (by omega) dX3_finds_94 ?_
              refine J_icmp_gt (tgt := 278) hC (by first | with_reducible assumption | exact zR_mk (by omega) (by omega)) (by first | with_reducible assumption | exact zR_mk (by omega) (by omega)) dX3_finds_95 rfl (fun c95 => ?_) (fun c95 => ?_)
              · have e : v = 16 * (k + 1) := by omega
                rw [e] at gf
                refine J_forget (L' := [some (.ref x), some (.int (zI (a))), some (.int (zI (fr))), some (.int (zI (pl))), some (.int (zI (t))), some (.int (zI (b0))), some (.int (zI (go))), some (.int (zI (fi))), some (.int (zI (k))), some (.int (zI (wd))), none, none, none, none, none]) (by simp [jle]) ?_
                exact tail b0 go fi a1 b1 0 hb0 gf
              · refine J_iload hC dX3_finds_98 rfl ?_
                refine J_if_eq (tgt := 278) hC (by first | with_reducible assumption | exact zR_mk (by omega) (by omega)) dX3_finds_100 rfl (fun c100 => ?_) (fun c100 => ?_)
                · have c100' : go = 0 := c100
                  subst c100'
                  refine J_forget (L' := [some (.ref x), some (.int (zI (a))), some (.int (zI (fr))), some (.int (zI (pl))), some (.int (zI (t))), some (.int (zI (b0))), some (.int (zI (0))), some (.int (zI (fi))), some (.int (zI (k))), some (.int (zI (wd))), none, none, none, none, none]) (by simp [jle]) ?_
                  exact tail b0 0 fi a1 b1 0 hb0 (fnd_stop gf (by omega))
                · have hgo1 : go = 1 := by omega
                  subst hgo1
                  have hv1 : v = 16 * k + e0 - 1 := by omega
                  have hsc := hp5 (16 * wd + e0) (by omega) (by omega)
                  refine J_aload_n hC dX3_finds_103 rfl ?_
                  refine J_iload hC dX3_finds_104 rfl ?_
                  refine J_iload hC dX3_finds_106 rfl ?_
                  refine Jm_callVi (n := 2) hC hΘ (m_canEnd hnt hD wd e0 (by omega) (by omega) (show zR (F 8 wd) from zR_mk (by omega) (by omega)) (show zR (F 11 (16 * wd + e0)) from zR_mk (by omega) (by omega))) (lw_V q1042 q1044 qs23 q61 q1045) ⟨rfl, by decide +kernel⟩ ⟨(Nat.le_of_ble_eq_true rfl), (Nat.le_of_ble_eq_true rfl)⟩ rfl rfl rfl rfl (Nat.le_of_ble_eq_true rfl) dX3_finds_108 ?_
                  intro ce F9 hr9
                  obtain ⟨hce, e9⟩ := hr9
                  rw [e9]
                  have hce : (ce = 1 ∧ (e0 = Lk ∨ 0 < F 11 (16 * wd + e0)) ∨ ce = 0 ∧ ¬ (e0 = Lk ∨ 0 < F 11 (16 * wd + e0))) := by rw [hLk]; exact hce
                  have hSq : pS (mq F a) k e0 = F 11 (16 * wd + e0) := by rw [hwd]; rfl
                  refine J_if_eq (tgt := 272) hC (by first | with_reducible assumption | exact zR_mk (by omega) (by omega)) dX3_finds_111 rfl (fun c111 => ?_) (fun c111 => ?_)
                  · refine J_iinc hC dX3_finds_272 rfl (Nat.le_of_ble_eq_true rfl) ?_
                    refine J_goto (tgt := 86) hC dX3_finds_275 rfl ?_
                    refine ih2 b0 1 fi a1 b1 (e0 + 1) (16 * k + e0) hb0 (by omega) (by omega) (by omega) (by omega) (Or.inl ⟨by omega, by omega⟩) (fnd_skip gf (by omega) (fun u u1 u2 => ?_))
                    have e : u = 16 * k + e0 := by omega
                    rw [e]
                    exact nsp_in (by omega) (by rw [hN]; omega) (by omega) (by omega) (by rw [hSq]; omega)
                  · -- a place u
                    have next : ∀ (go a1 b1 il ln to sm : Int), fnd (mq F a) (F 14) t to 0 go a1 b1 → (e0 < Lk ∧ to = 16 * k + e0 ∨ e0 = Lk ∧ to = 16 * (k + 1)) → J p l e (jr 1 0 0) s m args below meth c A Q (mP g x AD Θ (fF F t a1 b1) A) 0 0 269 [some (.ref x), some (.int (zI (a))), some (.int (zI (fr))), some (.int (zI (pl))), some (.int (zI (t))), some (.int (zI (b0))), some (.int (zI (go))), some (.int (zI (fi))), some (.int (zI (k))), some (.int (zI (wd))), some (.int (zI (e0))), some (.int (zI (il))), some (.int (zI (ln))), some (.int (zI (to))), some (.int (zI (sm)))] [] := by
                      intro go a1 b1 il ln to sm nf nto
                      refine J_iconst hC dX3_finds_269 ?_
                      refine J_istore hC dX3_finds_270 (Nat.le_of_ble_eq_true rfl) ?_
                      refine J_iinc hC dX3_finds_272 rfl (Nat.le_of_ble_eq_true rfl) ?_
                      refine J_goto (tgt := 86) hC dX3_finds_275 rfl ?_
                      refine J_forget (L' := [some (.ref x), some (.int (zI (a))), some (.int (zI (fr))), some (.int (zI (pl))), some (.int (zI (t))), some (.int (zI (b0))), some (.int (zI (go))), some (.int (zI (0))), some (.int (zI (k))), some (.int (zI (wd))), some (.int (zI (e0 + 1))), none, none, none, none]) (by simp [jle]) ?_
                      exact ih2 b0 go 0 a1 b1 (e0 + 1) to hb0 (by omega) (by omega) (by omega) (by omega) (by omega) nf
                    have j131 : ∀ il to : Int, (il = 1 ∧ e0 < Lk ∧ to = 16 * k + e0 ∨ il = 0 ∧ e0 = Lk ∧ to = 16 * (k + 1)) → J p l e (jr 1 0 0) s m args below meth c A Q (mP g x AD Θ (fF F t a1 b1) A) 0 0 131 [some (.ref x), some (.int (zI (a))), some (.int (zI (fr))), some (.int (zI (pl))), some (.int (zI (t))), some (.int (zI (b0))), some (.int (zI (1))), some (.int (zI (fi))), some (.int (zI (k))), some (.int (zI (wd))), some (.int (zI (e0))), none, none, none, none] [.int (zI il)] := by
                      intro il to hto
                      have hu : isSp (mq F a) to := by
                        rcases hto with ⟨-, h, e⟩ | ⟨-, h, e⟩
                        · rw [e]; exact sp_in (by omega) (by rw [hN]; omega) (by omega) (by omega) (by omega) (by rw [hSq]; omega)
                        · rw [e]; exact sp_word (by omega) (by rw [hN]; omega)
                      have hn : ∀ u, v < u → u < to → ¬ isSp (mq F a) u := fun u u1 u2 => by
                        rcases hto with ⟨-, h, e⟩ | ⟨-, h, e⟩
                        · omega
                        · exact nsp_rest (k := k) (by omega) (by rw [hN]; omega) (by omega) (by omega) (by omega)
                      obtain ⟨ln, hln⟩ : ∃ z, z = b0 + e0 + il := ⟨_, rfl⟩
                      have hlen : len (mq F a) t to = ln := by
                        rcases hto with ⟨h0, h, e⟩ | ⟨h0, h, e⟩
                        · rw [e, fl_in ht hpl.1 (by omega) (by omega) (by omega)]; omega
                        · rw [e, fl_out ht hpl.1 (by omega) (by omega), hLq]; omega
                      have hlb := len_bd hq hsp hu (by omega)
                      rw [hlen] at hlb
                      have htoN : to ≤ 16 * F 5 a := (isSp_le hq hu).2
                      have hlsu := hls to hu (by omega)
                      have hcb := cost_bd hq hsp hu (by omega)
                      have j221 : ∀ go la : Int, (go = 1 ∧ (fi = 1 ∨ ln ≤ F 1 0) ∨ go = 0 ∧ ¬ (fi = 1 ∨ ln ≤ F 1 0)) → (la = 1 ∧ to = 16 * F 5 a ∨ la = 0 ∧ ¬ to = 16 * F 5 a) → J p l e (jr 1 0 0) s m args below meth c A Q (mP g x AD Θ (fF F t a1 b1) A) 0 0 221 [some (.ref x), some (.int (zI (a))), some (.int (zI (fr))), some (.int (zI (pl))), some (.int (zI (t))), some (.int (zI (b0))), some (.int (zI (go))), some (.int (zI (fi))), some (.int (zI (k))), some (.int (zI (wd))), some (.int (zI (e0))), some (.int (zI (il))), some (.int (zI (ln))), some (.int (zI (to))), none] [.int (zI la), .int (zI il), .int (zI ln), .ref x] := by
                        intro go la hg hla
                        refine Jm_callVi (n := 3) hC hΘ (m_badnessOf hnt hD ln il la (show 10 ≤ F 1 0 ∧ F 1 0 ≤ 60 from hp4) (by omega) (by omega) (by omega)) (lw_V q1046 q1048 qs24 q61 q1049) ⟨rfl, by decide +kernel⟩ ⟨(Nat.le_of_ble_eq_true rfl), (Nat.le_of_ble_eq_true rfl)⟩ rfl rfl rfl rfl (Nat.le_of_ble_eq_true rfl) dX3_finds_221 ?_
                        intro bd F9 hr9
                        obtain ⟨hbd, e9⟩ := hr9
                        rw [e9]
                        have hcost : bd = cost (mq F a) t to := by
                          rw [hbd]
                          show (if la = 1 then (if ln ≤ F 1 0 then 0 else 10000) else (if ln ≤ F 1 0 then (F 1 0 - ln) * (F 1 0 - ln) else 10000) + (if il = 1 then 30 else 0)) = bad (F 1 0) (len (mq F a) t to) to (16 * F 5 a)
                          rw [hlen]
                          rcases hla with ⟨h0, h⟩ | ⟨h0, h⟩
                          · rw [if_pos h0, bad_last h (by omega)]
                          · rw [if_neg (show ¬ la = 1 by omega)]
                            rcases hto with ⟨h2, h3, h4⟩ | ⟨h2, h3, h4⟩
                            · rw [if_pos h2, bad_in h (by omega)]
                            · rw [if_neg (show ¬ il = 1 by omega), bad_word h (by omega)]
                        refine J_aload_n hC dX3_finds_224 rfl ?_
                        refine Jm_get hC 14 (by decide) q935 rfl rfl dX3_finds_225 ?_
                        refine J_iload hC dX3_finds_228 rfl ?_
                        refine Jm_iald hC 14 (n := 976) (v := F 14 to) (fF_ne F a1 b1 (by omega)) rfl (by decide) rfl (by omega) (by omega) dX3_finds_230 ?_
                        refine J_iadd hC dX3_finds_231 ?_
                        refine J_istore hC dX3_finds_232 (Nat.le_of_ble_eq_true rfl) ?_
                        refine J_iload hC dX3_finds_234 rfl ?_
                        refine J_if_eq (tgt := 269) hC (by first | with_reducible assumption | exact zR_mk (by omega) (by omega)) dX3_finds_236 rfl (fun c236 => ?_) (fun c236 => ?_)
                        · have hfo := fnd_out hq gf (by omega) hu hn (by rw [hlen, hW]; omega)
                          have e : go = 0 := c236
                          subst e
                          exact next 0 a1 b1 il ln to _ hfo (by omega)
                        · have e : go = 1 := by omega
                          subst e
                          have hfi := fnd_in gf (by omega) (by omega) hu hn (by rw [hlen, hW]; omega) (by omega)
                          have hab : zR a1 := by
                            rcases gf with ⟨-, -, h, -⟩ | ⟨-, h, h2, h3, -⟩
                            · rw [h]; exact zR_mk (by decide) (by decide)
                            · have z1 := cost_bd hq hsp h.1 h.2.1
                              have z2 := hls b1 h.1 h.2.1
                              have z3 := (isSp_le hq h.1).1
                              exact zR_mk (by omega) (by omega)
                          rw [hcost]
                          refine J_iload hC dX3_finds_239 rfl ?_
                          refine J_aload_n hC dX3_finds_241 rfl ?_
                          refine Jm_get hC 14 (by decide) q935 rfl rfl dX3_finds_242 ?_
                          refine J_iload hC dX3_finds_245 rfl ?_
                          refine Jm_iald hC 14 (n := 976) (v := a1) (fF_at F t a1 b1) rfl (by decide) rfl (by omega) (by omega) dX3_finds_247 ?_
                          refine J_icmp_gt (tgt := 269) hC (by first | with_reducible assumption | exact zR_mk (by omega) (by omega)) (by first | with_reducible assumption | exact zR_mk (by omega) (by omega)) dX3_finds_248 rfl (fun c248 => ?_) (fun c248 => ?_)
                          · exact next 1 a1 b1 il ln to _ (hfi.2 (by omega)) (by omega)
                          · refine J_aload_n hC dX3_finds_251 rfl ?_
                            refine Jm_get hC 14 (by decide) q935 rfl rfl dX3_finds_252 ?_
                            refine J_iload hC dX3_finds_255 rfl ?_
                            refine J_iload hC dX3_finds_257 rfl ?_
                            refine Jm_iast hC hD hΘ 14 (n := 976) rfl (by decide) rfl (by omega) (by omega) dX3_finds_259 ?_
                            refine J_aload_n hC dX3_finds_260 rfl ?_
                            refine Jm_get hC 15 (by decide) q936 rfl rfl dX3_finds_261 ?_
                            refine J_iload hC dX3_finds_264 rfl ?_
                            refine J_iload hC dX3_finds_266 rfl ?_
                            refine Jm_iast hC hD hΘ 15 (n := 976) rfl (by decide) rfl (by omega) (by omega) dX3_finds_268 ?_
                            rw [fF_1]
                            exact next 1 _ to il ln to _ (hfi.1 (by omega)) (by omega)
                      have j195 : ∀ go : Int, (go = 1 ∧ (fi = 1 ∨ ln ≤ F 1 0) ∨ go = 0 ∧ ¬ (fi = 1 ∨ ln ≤ F 1 0)) → J p l e (jr 1 0 0) s m args below meth c A Q (mP g x AD Θ (fF F t a1 b1) A) 0 0 195 [some (.ref x), some (.int (zI (a))), some (.int (zI (fr))), some (.int (zI (pl))), some (.int (zI (t))), some (.int (zI (b0))), some (.int (zI (go))), some (.int (zI (fi))), some (.int (zI (k))), some (.int (zI (wd))), some (.int (zI (e0))), some (.int (zI (il))), some (.int (zI (ln))), none, none] [.int (zI to)] := by
                        intro go hg
                        refine J_istore hC dX3_finds_195 (Nat.le_of_ble_eq_true rfl) ?_
                        refine J_aload_n hC dX3_finds_197 rfl ?_
                        refine J_iload hC dX3_finds_198 rfl ?_
                        refine J_iload hC dX3_finds_200 rfl ?_
                        refine J_iload hC dX3_finds_202 rfl ?_
                        refine J_bipush hC dX3_finds_204 (by decide) ?_
                        refine J_aload_n hC dX3_finds_206 rfl ?_
                        refine Jm_get hC 5 (by decide) q926 rfl rfl dX3_finds_207 ?_
                        refine J_iload_n hC dX3_finds_210 rfl ?_
                        refine Jm_iald hC 5 (n := 6) (v := F 5 a) rfl rfl (by decide) rfl (by omega) (by omega) dX3_finds_211 ?_
                        refine J_imul hC dX3_finds_212 ?_
                        refine J_icmp_ne (tgt := 220) hC (by first | with_reducible assumption | exact zR_mk (by omega) (by omega)) (by first | with_reducible assumption | exact zR_mk (by omega) (by omega)) dX3_finds_213 rfl (fun c213 => ?_) (fun c213 => ?_)
                        · refine J_iconst hC dX3_finds_220 ?_
                          exact j221 go 0 hg (Or.inr ⟨rfl, c213⟩)
                        · refine J_iconst hC dX3_finds_216 ?_
                          refine J_goto (tgt := 221) hC dX3_finds_217 rfl ?_
                          exact j221 go 1 hg (Or.inl ⟨rfl, c213⟩)
                      have j170 : ∀ go : Int, (go = 1 ∧ (fi = 1 ∨ ln ≤ F 1 0) ∨ go = 0 ∧ ¬ (fi = 1 ∨ ln ≤ F 1 0)) → J p l e (jr 1 0 0) s m args below meth c A Q (mP g x AD Θ (fF F t a1 b1) A) 0 0 170 [some (.ref x), some (.int (zI (a))), some (.int (zI (fr))), some (.int (zI (pl))), some (.int (zI (t))), some (.int (zI (b0))), some (.int (zI (1))), some (.int (zI (fi))), some (.int (zI (k))), some (.int (zI (wd))), some (.int (zI (e0))), some (.int (zI (il))), some (.int (zI (ln))), none, none] [.int (zI go)] := by
                        intro go hg
                        refine J_istore hC dX3_finds_170 (Nat.le_of_ble_eq_true rfl) ?_
                        refine J_iload hC dX3_finds_172 rfl ?_
                        refine J_if_eq (tgt := 188) hC (by first | with_reducible assumption | exact zR_mk (by omega) (by omega)) dX3_finds_174 rfl (fun c174 => ?_) (fun c174 => ?_)
                        · refine J_bipush hC dX3_finds_188 (by decide) ?_
                          refine J_iload hC dX3_finds_190 rfl ?_
                          refine J_iconst hC dX3_finds_192 ?_
                          refine J_iadd hC dX3_finds_193 ?_
                          refine J_imul hC dX3_finds_194 ?_
                          have e : to = 16 * (k + 1) := by omega
                          rw [← e]
                          exact j195 go hg
                        · refine J_bipush hC dX3_finds_177 (by decide) ?_
                          refine J_iload hC dX3_finds_179 rfl ?_
                          refine J_imul hC dX3_finds_181 ?_
                          refine J_iload hC dX3_finds_182 rfl ?_
                          refine J_iadd hC dX3_finds_184 ?_
                          refine J_goto (tgt := 195) hC dX3_finds_185 rfl ?_
                          have e : to = 16 * k + e0 := by omega
                          rw [← e]
                          exact j195 go hg
                      have j148 : J p l e (jr 1 0 0) s m args below meth c A Q (mP g x AD Θ (fF F t a1 b1) A) 0 0 148 [some (.ref x), some (.int (zI (a))), some (.int (zI (fr))), some (.int (zI (pl))), some (.int (zI (t))), some (.int (zI (b0))), some (.int (zI (1))), some (.int (zI (fi))), some (.int (zI (k))), some (.int (zI (wd))), some (.int (zI (e0))), some (.int (zI (il))), none, none, none] [.int (zI il), .int (zI (b0 + e0))] := by
                        refine J_iadd hC dX3_finds_148 ?_
                        refine J_istore hC dX3_finds_149 (Nat.le_of_ble_eq_true rfl) ?_
                        rw [← hln]
                        refine J_iload hC dX3_finds_151 rfl ?_
                        refine J_if_ne (tgt := 165) hC (by first | with_reducible assumption | exact zR_mk (by omega) (by omega)) dX3_finds_153 rfl (fun c153 => ?_) (fun c153 => ?_)
                        · refine J_iconst hC dX3_finds_165 ?_
                          refine J_goto (tgt := 170) hC dX3_finds_166 rfl ?_
                          exact j170 1 (Or.inl ⟨rfl, by omega⟩)
                        · refine J_iload hC dX3_finds_156 rfl ?_
                          refine J_aload_n hC dX3_finds_158 rfl ?_
                          refine Jm_gets hC 1 (v := F 1 0) rfl rfl q922 rfl dX3_finds_159 ?_
                          refine J_icmp_gt (tgt := 169) hC (by first | with_reducible assumption | exact zR_mk (by omega) (by omega)) (by first | with_reducible assumption | exact zR_mk (by omega) (by omega)) dX3_finds_162 rfl (fun c162 => ?_) (fun c162 => ?_)
                          · refine J_iconst hC dX3_finds_169 ?_
                            exact j170 0 (Or.inr ⟨rfl, by omega⟩)
                          · refine J_iconst hC dX3_finds_165 ?_
                            refine J_goto (tgt := 170) hC dX3_finds_166 rfl ?_
                            exact j170 1 (Or.inl ⟨rfl, by omega⟩)
                      refine J_istore hC dX3_finds_131 (Nat.le_of_ble_eq_true rfl) ?_
                      refine J_iload hC dX3_finds_133 rfl ?_
                      refine J_iload hC dX3_finds_135 rfl ?_
                      refine J_iadd hC dX3_finds_137 ?_
                      refine J_iload hC dX3_finds_138 rfl ?_
                      refine J_if_eq (tgt := 147) hC (by first | with_reducible assumption | exact zR_mk (by omega) (by omega)) dX3_finds_140 rfl (fun c140 => ?_) (fun c140 => ?_)
                      · refine J_iconst hC dX3_finds_147 ?_
                        have e : il = 0 := c140
                        subst e
                        exact j148
                      · refine J_iconst hC dX3_finds_143 ?_
                        refine J_goto (tgt := 148) hC dX3_finds_144 rfl ?_
                        have e : il = 1 := by omega
                        subst e
                        exact j148
                    refine J_iload hC dX3_finds_114 rfl ?_
                    refine J_aload_n hC dX3_finds_116 rfl ?_
                    refine Jm_get hC 8 (by decide) q929 rfl rfl dX3_finds_117 ?_
                    refine J_iload hC dX3_finds_120 rfl ?_
                    refine Jm_iald hC 8 (n := 60) (v := Lk) hLk.symm rfl (by decide) rfl (by omega) (by omega) dX3_finds_122 ?_
                    refine J_icmp_ge (tgt := 130) hC (by first | with_reducible assumption | exact zR_mk (by omega) (by omega)) (by first | with_reducible assumption | exact zR_mk (by omega) (by omega)) dX3_finds_123 rfl (fun c123 => ?_) (fun c123 => ?_)
                    · refine J_iconst hC dX3_finds_130 ?_
                      exact j131 0 (16 * (k + 1)) (Or.inr ⟨rfl, by omega, rfl⟩)
                    · refine J_iconst hC dX3_finds_126 ?_
                      refine J_goto (tgt := 131) hC dX3_finds_127 rfl ?_
                      exact j131 1 (16 * k + e0) (Or.inl ⟨rfl, by omega, rfl⟩)
          refine J_aload_n hC dX3_finds_46 rfl ?_
          refine J_iload_n hC dX3_finds_47 rfl ?_
          refine J_iload hC dX3_finds_48 rfl ?_
          refine Jm_callVi (n := 2) hC hΘ (m_word hnt hD a k (by omega) (by omega)) (lw_V q1029 q1031 qs20 q61 q1032) ⟨rfl, by decide +kernel⟩ ⟨(Nat.le_of_ble_eq_true rfl), (Nat.le_of_ble_eq_true rfl)⟩ rfl rfl rfl rfl (Nat.le_of_ble_eq_true rfl) dX3_finds_50 ?_
          intro wd9 F9 hr9
          obtain ⟨hwd9, e9⟩ := hr9
          rw [e9]
          refine J_istore hC dX3_finds_53 (Nat.le_of_ble_eq_true rfl) ?_
          have hwd9 : wd9 = wd := by rw [hwd]; exact hwd9
          rw [hwd9]
          refine J_iload hC dX3_finds_55 rfl ?_
          refine J_iload hC dX3_finds_57 rfl ?_
          refine J_iload_n hC dX3_finds_59 rfl ?_
          refine J_icmp_ne (tgt := 67) hC (by first | with_reducible assumption | exact zR_mk (by omega) (by omega)) (by first | with_reducible assumption | exact zR_mk (by omega) (by omega)) dX3_finds_60 rfl (fun c60 => ?_) (fun c60 => ?_)
          · refine J_iconst hC dX3_finds_67 ?_
            refine J_iadd hC dX3_finds_68 ?_
            refine J_istore hC dX3_finds_69 (Nat.le_of_ble_eq_true rfl) ?_
            refine J_iload hC dX3_finds_71 rfl ?_
            refine J_iload_n hC dX3_finds_73 rfl ?_
            refine J_icmp_ne (tgt := 83) hC (by first | with_reducible assumption | exact zR_mk (by omega) (by omega)) (by first | with_reducible assumption | exact zR_mk (by omega) (by omega)) dX3_finds_74 rfl (fun c74 => ?_) (fun c74 => ?_)
            · refine J_iconst hC dX3_finds_83 ?_
              refine J_istore hC dX3_finds_84 (Nat.le_of_ble_eq_true rfl) ?_
              exact inner (Lk + 1).toNat (bh + 1) 1 fi a1 b1 1 v (by omega) (by omega) (by omega) (by omega) (by omega) (by omega) hf
            · omega
          · refine J_iconst hC dX3_finds_63 ?_
            refine J_goto (tgt := 68) hC dX3_finds_64 rfl ?_
            refine J_iadd hC dX3_finds_68 ?_
            refine J_istore hC dX3_finds_69 (Nat.le_of_ble_eq_true rfl) ?_
            refine J_iload hC dX3_finds_71 rfl ?_
            refine J_iload_n hC dX3_finds_73 rfl ?_
            refine J_icmp_ne (tgt := 83) hC (by first | with_reducible assumption | exact zR_mk (by omega) (by omega)) (by first | with_reducible assumption | exact zR_mk (by omega) (by omega)) dX3_finds_74 rfl (fun c74 => ?_) (fun c74 => ?_)
            · omega
            · refine J_iload_n hC dX3_finds_77 rfl ?_
              refine J_iconst hC dX3_finds_78 ?_
              refine J_iadd hC dX3_finds_79 ?_
              refine J_goto (tgt := 84) hC dX3_finds_80 rfl ?_
              refine J_istore hC dX3_finds_84 (Nat.le_of_ble_eq_true rfl) ?_
              have e : k = fr := c60
              subst e
              exact inner (Lk + 1).toNat (bh + 0) 1 fi a1 b1 (pl + 1) v (by omega) (by omega) (by rw [hLk, hwd]; omega) (by omega) (by omega) (by rw [hLk, hwd]; omega) hf
  refine J_bipush hC dX3_finds_0 (by decide) ?_
  refine J_iload_n hC dX3_finds_2 rfl ?_
  refine J_imul hC dX3_finds_3 ?_
  refine J_iload_n hC dX3_finds_4 rfl ?_
  refine J_iadd hC dX3_finds_5 ?_
  refine J_istore hC dX3_finds_6 (Nat.le_of_ble_eq_true rfl) ?_
  refine J_iload_n hC dX3_finds_8 rfl ?_
  refine J_ineg hC dX3_finds_9 ?_
  refine J_istore hC dX3_finds_10 (Nat.le_of_ble_eq_true rfl) ?_
  refine J_iconst hC dX3_finds_12 ?_
  refine J_istore hC dX3_finds_13 (Nat.le_of_ble_eq_true rfl) ?_
  refine J_iconst hC dX3_finds_15 ?_
  refine J_istore hC dX3_finds_16 (Nat.le_of_ble_eq_true rfl) ?_
  refine J_aload_n hC dX3_finds_18 rfl ?_
  refine Jm_get hC 14 (by decide) q935 rfl rfl dX3_finds_19 ?_
  refine J_iload hC dX3_finds_22 rfl ?_
  refine J_ldc hC q1041 (n := 1000000000) (by decide) dX3_finds_24 ?_
  refine Jm_iast hC hD hΘ 14 (n := 976) rfl (by decide) rfl (by omega) (by omega) dX3_finds_26 ?_
  refine J_iload_n hC dX3_finds_27 rfl ?_
  refine J_istore hC dX3_finds_28 (Nat.le_of_ble_eq_true rfl) ?_
  rw [← ht, fF_0]
  exact loop (F 5 a + 1).toNat fr (-pl) 1 1 1000000000 (F 15 t) t (Int.le_refl _) (by omega) (by omega) (Or.inl ⟨rfl, rfl, rfl⟩) fnd_0
