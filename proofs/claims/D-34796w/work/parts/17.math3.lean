/-! PLAIN LAW: pages, by how many lines each paragraph has (c p, p < np) -/
set_option maxRecDepth 100000
def inPar (c : Int → Int) (np ln p : Int) : Prop := 0 ≤ p ∧ p < np ∧ sI c p ≤ ln ∧ ln < sI c (p + 1)
/-- a page that begins with the line fr ends ahead of the line e -/
def PgE (c : Int → Int) (np h all fr e : Int) : Prop := (all - fr ≤ h ∧ e = all) ∨ (h < all - fr ∧ ∃ p1 p2 p3, inPar c np (fr + h - 1) p1 ∧ inPar c np (fr + h) p2 ∧ inPar c np (fr + h - 2) p3 ∧
  e = if fr + h - 1 = sI c p1 ∧ ¬ fr + h = sI c (p1 + 1) then fr + h - 1 else if fr + h + 1 = sI c (p2 + 1) ∧ ¬ fr + h = sI c p2 then (if fr + h - 2 = sI c p3 ∧ ¬ fr + h - 1 = sI c (p3 + 1) then fr + h - 2 else fr + h - 1) else fr + h)
def cOk (c : Int → Int) (np : Int) : Prop := 0 ≤ np ∧ np ≤ 6 ∧ ∀ p, 0 ≤ p → p < np → 0 ≤ c p ∧ c p ≤ 960
theorem cOk_mono {c : Int → Int} {np a b : Int} (h : cOk c np) (ha : 0 ≤ a) (hab : a ≤ b) (hb : b ≤ np) : sI c a ≤ sI c b := sI_mono ha hab (fun j h1 h2 => (h.2.2 j (by omega) (by omega)).1)
theorem cOk_bd {c : Int → Int} {np a : Int} (h : cOk c np) (ha : 0 ≤ a) (hb : a ≤ np) : 0 ≤ sI c a ∧ sI c a ≤ 5760 := by
  have h1 := sI_nonneg (f := c) ha (fun j h1 h2 => (h.2.2 j (by omega) (by omega)).1)
  have h2 := sI_upper (f := c) (c := 960) ha (fun j h1 h2 => (h.2.2 j (by omega) (by omega)).2)
  have := h.2.1
  omega
theorem inPar_uniq {c : Int → Int} {np ln p p' : Int} (h : cOk c np) (h1 : inPar c np ln p) (h2 : inPar c np ln p') : p = p' := by
  obtain ⟨a1, a2, a3, a4⟩ := h1
  obtain ⟨b1, b2, b3, b4⟩ := h2
  rcases Int.lt_trichotomy p p' with z | z | z
  · have := cOk_mono h (a := p + 1) (b := p') (by omega) (by omega) (by omega)
    omega
  · exact z
  · have := cOk_mono h (a := p' + 1) (b := p) (by omega) (by omega) (by omega)
    omega
theorem inPar_ex {c : Int → Int} {np ln : Int} (h : cOk c np) (h0 : 0 ≤ ln) (h1 : ln < sI c np) : ∃ p, inPar c np ln p := by
  have key : ∀ k, 0 ≤ k → k ≤ np → ln < sI c k → ∃ p, inPar c np ln p := by
    refine fun k hk => int_ind (P := fun k => k ≤ np → ln < sI c k → ∃ p, inPar c np ln p) (fun _ z => ?_) (fun j hj ih hjn z => ?_) k hk
    · rw [sI_0] at z
      omega
    · rcases Int.lt_or_le ln (sI c j) with y | y
      · exact ih (by omega) y
      · exact ⟨j, hj, by omega, y, z⟩
  exact key np h.1 (Int.le_refl _) h1
theorem PgE_prog {c : Int → Int} {np h all fr e : Int} (hh : 3 ≤ h ∧ h ≤ 20) (hf : 0 ≤ fr ∧ fr < all) (hp : PgE c np h all fr e) : fr < e ∧ e ≤ all := by
  rcases hp with ⟨h1, h2⟩ | ⟨h1, p1, p2, p3, -, -, -, h2⟩
  · omega
  · rw [h2]
    split
    · omega
    · split
      · split <;> omega
      · omega
theorem PgE_uniq {c c' : Int → Int} {np h all fr e e' : Int} (hc : cOk c np) (hcc : ∀ p, 0 ≤ p → p < np → c p = c' p) (h1 : PgE c np h all fr e) (h2 : PgE c' np h all fr e') : e = e' := by
  have hs : ∀ p, 0 ≤ p → p ≤ np → sI c p = sI c' p := fun p z1 z2 => sI_congr z1 (fun j y1 y2 => hcc j y1 (by omega))
  have hi : ∀ ln p, inPar c' np ln p → inPar c np ln p := fun ln p ⟨z1, z2, z3, z4⟩ => ⟨z1, z2, by rw [hs p z1 (by omega)]; exact z3, by rw [hs (p + 1) (by omega) (by omega)]; exact z4⟩
  rcases h1 with ⟨a1, a2⟩ | ⟨a1, p1, p2, p3, b1, b2, b3, a2⟩ <;> rcases h2 with ⟨c1, c2⟩ | ⟨c1, q1, q2, q3, d1, d2, d3, c2⟩
  · omega
  · omega
  · omega
  · have e1 := inPar_uniq hc b1 (hi _ _ d1)
    have e2 := inPar_uniq hc b2 (hi _ _ d2)
    have e3 := inPar_uniq hc b3 (hi _ _ d3)
    subst e1; subst e2; subst e3
    rw [a2, c2, hs p1 b1.1 (by have := b1.2.1; omega), hs (p1 + 1) (by have := b1.1; omega) (by have := b1.2.1; omega), hs p2 b2.1 (by have := b2.2.1; omega), hs (p2 + 1) (by have := b2.1; omega) (by have := b2.2.1; omega), hs p3 b3.1 (by have := b3.2.1; omega), hs (p3 + 1) (by have := b3.1; omega) (by have := b3.2.1; omega)]
/-- the first m pages begin and end so -/
def PgC (c : Int → Int) (np h all : Int) (s : Int → Int) (m : Int) : Prop := s 0 = 0 ∧ ∀ i, 0 ≤ i → i < m → s i < all ∧ PgE c np h all (s i) (s (i + 1))
theorem PgC_0 {c : Int → Int} {np h all : Int} : PgC c np h all (fun _ => 0) 0 := ⟨rfl, fun i h1 h2 => by omega⟩
theorem PgC_step {c : Int → Int} {np h all : Int} {s : Int → Int} {m e : Int} (hm : 0 ≤ m) (hC : PgC c np h all s m) (hlt : s m < all) (hE : PgE c np h all (s m) e) : PgC c np h all (upI s (m + 1) e) (m + 1) ∧ upI s (m + 1) e (m + 1) = e ∧ ∀ i, i ≤ m → upI s (m + 1) e i = s i := by
  have hk : ∀ i, i ≤ m → upI s (m + 1) e i = s i := fun i hi => upI_ne _ (by omega)
  refine ⟨⟨by rw [hk 0 hm]; exact hC.1, fun i h1 h2 => ?_⟩, upI_self _ _ _, hk⟩
  rw [hk i (by omega)]
  by_cases hi : i = m
  · rw [hi, upI_self]; exact ⟨hlt, hE⟩
  · rw [hk (i + 1) (by omega)]; exact hC.2 i h1 (by omega)
theorem PgC_bd {c : Int → Int} {np h all : Int} {s : Int → Int} {m : Int} (hh : 3 ≤ h ∧ h ≤ 20) (hall : 0 ≤ all) (hC : PgC c np h all s m) : ∀ i, 0 ≤ i → i ≤ m → i ≤ s i ∧ s i ≤ all := by
  refine fun i hi => int_ind (P := fun i => i ≤ m → i ≤ s i ∧ s i ≤ all) (fun _ => by rw [hC.1]; omega) (fun k hk ih hkm => ?_) i hi
  have h1 := ih (by omega)
  obtain ⟨h2, h3⟩ := hC.2 k hk (by omega)
  have := PgE_prog hh ⟨by omega, h2⟩ h3
  omega
theorem PgC_uniq {c c' : Int → Int} {np h all : Int} {s s' : Int → Int} {m m' : Int} (hc : cOk c np) (hcc : ∀ p, 0 ≤ p → p < np → c p = c' p) (h1 : PgC c np h all s m) (h2 : PgC c' np h all s' m') : ∀ i, 0 ≤ i → i ≤ m → i ≤ m' → s i = s' i := by
  refine fun i hi => int_ind (P := fun i => i ≤ m → i ≤ m' → s i = s' i) (fun _ _ => h1.1.trans h2.1.symm) (fun k hk ih a b => ?_) i hi
  have e := ih (by omega) (by omega)
  have h3 := (h1.2 k hk (by omega)).2
  have h4 := (h2.2 k hk (by omega)).2
  rw [← e] at h4
  exact PgE_uniq hc hcc h3 h4
def PagesR (c : Int → Int) (np h : Int) (r : Int) : Prop := ∃ s, 0 ≤ r ∧ PgC c np h (sI c np) s r ∧ s r = sI c np
def LinesOnR (c : Int → Int) (np h pg r : Int) : Prop := ∃ s m, 0 ≤ m ∧ PgC c np h (sI c np) s m ∧ ((m = pg + 1 ∧ r = s m - s (m - 1)) ∨ (m ≤ pg ∧ s m = sI c np ∧ r = 0))
def WhereR (c : Int → Int) (np h ln r : Int) : Prop := ∃ s m, 0 ≤ m ∧ PgC c np h (sI c np) s (m + 1) ∧ s m ≤ ln ∧ ln < s (m + 1) ∧ r = 100 * m + ln - s m
theorem PagesR_uniq {c c' : Int → Int} {np h r r' : Int} (hc : cOk c np) (hcc : ∀ p, 0 ≤ p → p < np → c p = c' p) (h1 : PagesR c np h r) (h2 : PagesR c' np h r') : r = r' := by
  obtain ⟨s, a1, a2, a3⟩ := h1
  obtain ⟨s', b1, b2, b3⟩ := h2
  have e : sI c' np = sI c np := (sI_congr hc.1 (fun j y1 y2 => hcc j y1 y2)).symm
  rw [e] at b2 b3
  have key := PgC_uniq hc hcc a2 b2
  rcases Int.lt_trichotomy r r' with z | z | z
  · have := (b2.2 r a1 z).1
    rw [← key r a1 (Int.le_refl _) (by omega)] at this
    omega
  · exact z
  · have := (a2.2 r' b1 z).1
    rw [key r' b1 (by omega) (Int.le_refl _)] at this
    omega
theorem LinesOnR_uniq {c c' : Int → Int} {np h pg r r' : Int} (hc : cOk c np) (hcc : ∀ p, 0 ≤ p → p < np → c p = c' p) (hpg : 0 ≤ pg) (h1 : LinesOnR c np h pg r) (h2 : LinesOnR c' np h pg r') : r = r' := by
  obtain ⟨s, m, a1, a2, a3⟩ := h1
  obtain ⟨s', m', b1, b2, b3⟩ := h2
  have e : sI c' np = sI c np := (sI_congr hc.1 (fun j y1 y2 => hcc j y1 y2)).symm
  rw [e] at b2 b3
  have key := PgC_uniq hc hcc a2 b2
  rcases a3 with ⟨x1, x2⟩ | ⟨x1, x2, x3⟩ <;> rcases b3 with ⟨y1, y2⟩ | ⟨y1, y2, y3⟩
  · rw [x2, y2, x1, y1, key (pg + 1) (by omega) (by omega) (by omega), key (pg + 1 - 1) (by omega) (by omega) (by omega)]
  · have := (a2.2 m' b1 (by omega)).1
    rw [key m' b1 (by omega) (Int.le_refl _)] at this
    omega
  · have := (b2.2 m a1 (by omega)).1
    rw [← key m a1 (Int.le_refl _) (by omega)] at this
    omega
  · omega
theorem WhereR_uniq {c c' : Int → Int} {np h ln r r' : Int} (hh : 3 ≤ h ∧ h ≤ 20) (hc : cOk c np) (hcc : ∀ p, 0 ≤ p → p < np → c p = c' p) (h1 : WhereR c np h ln r) (h2 : WhereR c' np h ln r') : r = r' := by
  obtain ⟨s, m, a1, a2, a3, a4, a5⟩ := h1
  obtain ⟨s', m', b1, b2, b3, b4, b5⟩ := h2
  have e : sI c' np = sI c np := (sI_congr hc.1 (fun j y1 y2 => hcc j y1 y2)).symm
  rw [e] at b2
  have key := PgC_uniq hc hcc a2 b2
  have hall := (cOk_bd hc hc.1 (Int.le_refl np)).1
  have mono : ∀ {c : Int → Int} {s : Int → Int} {m : Int}, PgC c np h (sI c np) s (m + 1) → 0 ≤ sI c np → ∀ d, 0 ≤ d → ∀ i, 0 ≤ i → i + d ≤ m + 1 → s i ≤ s (i + d) := by
    intro c s m hC hall d hd i hi
    refine int_ind (P := fun d => i + d ≤ m + 1 → s i ≤ s (i + d)) (fun _ => by rw [Int.add_zero]; exact Int.le_refl _) (fun k hk ih hkm => ?_) d hd
    have h1 := ih (by omega)
    obtain ⟨h2, h3⟩ := hC.2 (i + k) (by omega) (by omega)
    have h4 := PgC_bd hh hall hC (i + k) (by omega) (by omega)
    have := PgE_prog hh ⟨by omega, h2⟩ h3
    rw [show i + (k + 1) = i + k + 1 by omega]
    omega
  rcases Int.lt_trichotomy m m' with z | z | z
  · have h5 := key (m + 1) (by omega) (Int.le_refl _) (by omega)
    rw [← e] at b2
    have h6 := mono b2 (by rw [e]; exact hall) (m' - (m + 1)) (by omega) (m + 1) (by omega) (by omega)
    rw [show m + 1 + (m' - (m + 1)) = m' by omega] at h6
    omega
  · subst z
    have h5 := key m a1 (by omega) (by omega)
    omega
  · have h5 := key (m' + 1) (by omega) (by omega) (Int.le_refl _)
    have h6 := mono a2 hall (m - (m' + 1)) (by omega) (m' + 1) (by omega) (by omega)
    rw [show m' + 1 + (m - (m' + 1)) = m by omega] at h6
    omega
