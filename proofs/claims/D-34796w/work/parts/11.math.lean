/-! PLAIN LAW: sums, places where a line may end, what lines cost, the best lines -/
set_option maxRecDepth 100000
def sN (f : Int → Int) : Nat → Int
  | 0 => 0
  | n + 1 => sN f n + f n
/-- the sum of f over 0 ≤ j < i -/
def sI (f : Int → Int) (i : Int) : Int := sN f i.toNat
theorem sI_0 (f : Int → Int) : sI f 0 = 0 := rfl
theorem sI_succ (f : Int → Int) {i : Int} (h : 0 ≤ i) : sI f (i + 1) = sI f i + f i := by
  unfold sI
  have e : (i + 1).toNat = i.toNat + 1 := by omega
  rw [e]
  show sN f i.toNat + f (i.toNat : Int) = _
  rw [Int.toNat_of_nonneg h]
/-- induction over the integers from 0 on -/
theorem int_ind {P : Int → Prop} (h0 : P 0) (hs : ∀ i, 0 ≤ i → P i → P (i + 1)) (i : Int) (hi : 0 ≤ i) : P i := by
  obtain ⟨n, rfl⟩ := Int.eq_ofNat_of_zero_le hi
  induction n with
  | zero => exact h0
  | succ n ih => exact hs n (by omega) (ih (by omega))
theorem sI_congr {f h : Int → Int} {i : Int} (hi : 0 ≤ i) (e : ∀ j, 0 ≤ j → j < i → f j = h j) : sI f i = sI h i := by
  have key : ∀ k, 0 ≤ k → k ≤ i → sI f k = sI h k := fun k hk => by
    refine int_ind (P := fun k => k ≤ i → sI f k = sI h k) (fun _ => rfl) (fun j hj ih hji => ?_) k hk
    rw [sI_succ f hj, sI_succ h hj, ih (by omega), e j hj (by omega)]
  exact key i hi (Int.le_refl i)
theorem sI_step {f : Int → Int} {a b c : Int} (ha : 0 ≤ a) (hab : a ≤ b) (e : ∀ j, a ≤ j → j < b → c ≤ f j) : sI f a + c * (b - a) ≤ sI f b := by
  have key : ∀ d, 0 ≤ d → d ≤ b - a → sI f a + c * d ≤ sI f (a + d) := fun d hd => by
    refine int_ind (P := fun d => d ≤ b - a → sI f a + c * d ≤ sI f (a + d)) (fun _ => by simp) (fun j hj ih hji => ?_) d hd
    have h1 := ih (by omega)
    have h2 := e (a + j) (by omega) (by omega)
    rw [show a + (j + 1) = a + j + 1 by omega, sI_succ f (by omega), Int.mul_add]
    omega
  have := key (b - a) (by omega) (Int.le_refl _)
  rwa [show a + (b - a) = b by omega] at this
theorem sI_mono {f : Int → Int} {a b : Int} (ha : 0 ≤ a) (hab : a ≤ b) (e : ∀ j, a ≤ j → j < b → 0 ≤ f j) : sI f a ≤ sI f b := by
  have := sI_step (c := 0) ha hab e
  omega
theorem sI_upper {f : Int → Int} {b c : Int} (hb : 0 ≤ b) (e : ∀ j, 0 ≤ j → j < b → f j ≤ c) : sI f b ≤ c * b := by
  have key : ∀ d, 0 ≤ d → d ≤ b → sI f d ≤ c * d := fun d hd => by
    refine int_ind (P := fun d => d ≤ b → sI f d ≤ c * d) (fun _ => by simp [sI_0]) (fun j hj ih hji => ?_) d hd
    have h1 := ih (by omega)
    have h2 := e j hj (by omega)
    rw [sI_succ f hj, Int.mul_add]
    omega
  exact key b hb (Int.le_refl _)
theorem sI_nonneg {f : Int → Int} {b : Int} (hb : 0 ≤ b) (e : ∀ j, 0 ≤ j → j < b → 0 ≤ f j) : 0 ≤ sI f b := by
  have := sI_mono (Int.le_refl 0) hb e
  rwa [sI_0] at this
theorem sq_bd {a : Int} (h0 : 0 ≤ a) (h1 : a ≤ 60) : 0 ≤ a * a ∧ a * a ≤ 3600 := by
  have h2 := Int.mul_nonneg h0 h0
  have h3 : a * a ≤ 60 * 60 := Int.mul_le_mul h1 h1 h0 (by decide)
  exact ⟨h2, by omega⟩
/-! a paragraph: how many words, their letters, the scores at a word's places, the width -/
abbrev PQ : Type := Int × (Int → Int) × (Int → Int → Int) × Int
abbrev pN (q : PQ) : Int := q.1
abbrev pL (q : PQ) : Int → Int := q.2.1
abbrev pS (q : PQ) : Int → Int → Int := q.2.2.1
abbrev pW (q : PQ) : Int := q.2.2.2
def pOk (q : PQ) : Prop := 0 ≤ pN q ∧ pN q ≤ 60 ∧ (∀ k, 0 ≤ k → k < pN q → 1 ≤ pL q k ∧ pL q k ≤ 15) ∧ 10 ≤ pW q ∧ pW q ≤ 60
/-- a place at which a line may end, or begin -/
def isSp (q : PQ) (t : Int) : Prop := (0 ≤ t ∧ t < 16 * pN q ∧ (t % 16 = 0 ∨ t % 16 < pL q (t / 16) ∧ 0 < pS q (t / 16) (t % 16))) ∨ t = 16 * pN q
def pos1 (q : PQ) (u : Int) : Int := sI (pL q) (u / 16) + u % 16 + (if 0 < u % 16 then u / 16 + 1 else u / 16 - 1)
def pos0 (q : PQ) (t : Int) : Int := sI (pL q) (t / 16) + t % 16 + t / 16
/-- the length of a line from t to u -/
def len (q : PQ) (t u : Int) : Int := pos1 q u - pos0 q t
def hy (u : Int) : Int := if 0 < u % 16 then 30 else 0
/-- what a line of that length costs -/
def bad (w ln : Int) (u n : Int) : Int := if ln ≤ w then (if u = n then 0 else (w - ln) * (w - ln) + hy u) else 10000 + hy u
def cost (q : PQ) (t u : Int) : Int := bad (pW q) (len q t u) u (16 * pN q)
def feas (q : PQ) (t u : Int) : Prop := isSp q u ∧ t < u ∧ (len q t u ≤ pW q ∨ ∀ v, t < v → v < u → ¬ isSp q v)
def bestAt (q : PQ) (ls nx : Int → Int) (t : Int) : Prop := feas q t (nx t) ∧ ls t = cost q t (nx t) + ls (nx t) ∧ ∀ u, feas q t u → (u ≤ nx t ∧ ls t ≤ cost q t u + ls u) ∨ (nx t < u ∧ ls t < cost q t u + ls u)
def best (q : PQ) (ls nx : Int → Int) : Prop := ls (16 * pN q) = 0 ∧ ∀ t, isSp q t → t < 16 * pN q → bestAt q ls nx t
theorem isSp_le {q : PQ} (hq : pOk q) {t : Int} (h : isSp q t) : 0 ≤ t ∧ t ≤ 16 * pN q := by
  have := hq.1
  rcases h with ⟨h1, h2, -⟩ | h
  · omega
  · omega
theorem isSp_end (q : PQ) : isSp q (16 * pN q) := Or.inr rfl
theorem pos1_mono {q : PQ} (hq : pOk q) {u v : Int} (hu : isSp q u) (hv : isSp q v) (huv : u < v) : pos1 q u ≤ pos1 q v := by
  have h1 := isSp_le hq hu
  have h2 := isSp_le hq hv
  have h3 := hq.2.2.1
  have huN : u < 16 * pN q := by omega
  have hu' : u % 16 = 0 ∨ u % 16 < pL q (u / 16) := by
    rcases hu with ⟨-, -, h | h⟩ | h
    · exact Or.inl h
    · exact Or.inr h.1
    · omega
  unfold pos1
  by_cases hk : u / 16 = v / 16
  · rw [hk]
    have h4 : u % 16 < v % 16 := by omega
    rw [if_pos (show 0 < v % 16 by omega)]
    split <;> omega
  · have hk' : u / 16 + 1 ≤ v / 16 := by omega
    have h5 := sI_step (f := pL q) (a := u / 16 + 1) (b := v / 16) (c := 1) (by omega) hk' (fun j a1 a2 => (h3 j (by omega) (by omega)).1)
    rw [sI_succ _ (by omega)] at h5
    have h6 := h3 (u / 16) (by omega) (by omega)
    rcases hu' with h7 | h7
    · rw [if_neg (show ¬ 0 < u % 16 by omega)]
      split <;> omega
    · split <;> split <;> omega
theorem pos0_mono {q : PQ} (hq : pOk q) {u v : Int} (hu : isSp q u) (hv : isSp q v) (huv : u < v) : pos0 q u < pos0 q v := by
  have h1 := isSp_le hq hu
  have h2 := isSp_le hq hv
  have h3 := hq.2.2.1
  have huN : u < 16 * pN q := by omega
  have hu' : u % 16 = 0 ∨ u % 16 < pL q (u / 16) := by
    rcases hu with ⟨-, -, h | h⟩ | h
    · exact Or.inl h
    · exact Or.inr h.1
    · omega
  unfold pos0
  by_cases hk : u / 16 = v / 16
  · rw [hk]
    have h4 : u % 16 < v % 16 := by omega
    omega
  · have hk' : u / 16 + 1 ≤ v / 16 := by omega
    have h5 := sI_step (f := pL q) (a := u / 16 + 1) (b := v / 16) (c := 1) (by omega) hk' (fun j a1 a2 => (h3 j (by omega) (by omega)).1)
    rw [sI_succ _ (by omega)] at h5
    have h6 := h3 (u / 16) (by omega) (by omega)
    rcases hu' with h7 | h7 <;> omega
theorem len_mono {q : PQ} (hq : pOk q) {t u v : Int} (hu : isSp q u) (hv : isSp q v) (huv : u < v) : len q t u ≤ len q t v := by
  have := pos1_mono hq hu hv huv
  unfold len
  omega
theorem len_anti {q : PQ} (hq : pOk q) {t s u : Int} (hs : isSp q s) (ht : isSp q t) (hst : s < t) : len q t u < len q s u := by
  have := pos0_mono hq hs ht hst
  unfold len
  omega
theorem len_bd {q : PQ} (hq : pOk q) {t u : Int} (ht : isSp q t) (hu : isSp q u) (h : t < u) : 0 ≤ len q t u ∧ len q t u ≤ 1000 := by
  have h1 := isSp_le hq ht
  have h2 := isSp_le hq hu
  have h3 := hq.2.2.1
  have h0 := hq.2.1
  have h4 := sI_nonneg (f := pL q) (b := t / 16) (by omega) (fun j a1 a2 => by have := (h3 j a1 (by omega)).1; omega)
  have h5 := sI_upper (f := pL q) (b := u / 16) (c := 15) (by omega) (fun j a1 a2 => (h3 j a1 (by omega)).2)
  have htN : t < 16 * pN q := by omega
  have ht' : t % 16 = 0 ∨ t % 16 < pL q (t / 16) := by
    rcases ht with ⟨-, -, h | h⟩ | h
    · exact Or.inl h
    · exact Or.inr h.1
    · omega
  unfold len pos1 pos0
  refine ⟨?_, by split <;> omega⟩
  by_cases hk : t / 16 = u / 16
  · rw [hk, if_pos (show 0 < u % 16 by omega)]
    omega
  · have h6 := sI_step (f := pL q) (a := t / 16 + 1) (b := u / 16) (c := 1) (by omega) (by omega) (fun j a1 a2 => (h3 j (by omega) (by omega)).1)
    rw [sI_succ _ (by omega)] at h6
    have h7 := h3 (t / 16) (by omega) (by omega)
    rcases ht' with h8 | h8 <;> split <;> omega
theorem cost_bd {q : PQ} (hq : pOk q) {t u : Int} (ht : isSp q t) (hu : isSp q u) (h : t < u) : 0 ≤ cost q t u ∧ cost q t u ≤ 10030 := by
  have h1 := len_bd hq ht hu h
  have h2 := hq.2.2.2
  unfold cost bad hy
  split
  · have := sq_bd (a := pW q - len q t u) (by omega) (by omega)
    split
    · omega
    · split <;> omega
  · split <;> omega
/-! one line's search: what is known when all places up to v have been looked at -/
def fnd (q : PQ) (ls : Int → Int) (at0 v fi go a b : Int) : Prop :=
  (fi = 1 ∧ go = 1 ∧ a = 1000000000 ∧ ∀ u, at0 < u → u ≤ v → ¬ isSp q u) ∨
  (fi = 0 ∧ feas q at0 b ∧ b ≤ v ∧ a = cost q at0 b + ls b ∧ (∀ u, feas q at0 u → u ≤ v → (u ≤ b ∧ a ≤ cost q at0 u + ls u) ∨ (b < u ∧ a < cost q at0 u + ls u)) ∧ (go = 1 ∨ go = 0 ∧ ∀ u, feas q at0 u → u ≤ v))
theorem fnd_go {q : PQ} {ls : Int → Int} {at0 v fi go a b : Int} (h : fnd q ls at0 v fi go a b) : (go = 0 ∨ go = 1) ∧ (fi = 0 ∨ fi = 1) ∧ (go = 0 → fi = 0) := by
  rcases h with ⟨h1, h2, -⟩ | ⟨h1, -, -, -, -, h2⟩ <;> omega
theorem fnd_0 {q : PQ} {ls : Int → Int} {at0 b : Int} : fnd q ls at0 at0 1 1 1000000000 b := Or.inl ⟨rfl, rfl, rfl, fun u h1 h2 => by omega⟩
theorem fnd_skip {q : PQ} {ls : Int → Int} {at0 v v' fi go a b : Int} (h : fnd q ls at0 v fi go a b) (hv : v ≤ v') (hn : ∀ u, v < u → u ≤ v' → ¬ isSp q u) : fnd q ls at0 v' fi go a b := by
  rcases h with ⟨h1, h2, h3, h4⟩ | ⟨h1, h2, h3, h4, h5, h6⟩
  · refine Or.inl ⟨h1, h2, h3, fun u a1 a2 => ?_⟩
    rcases Int.lt_or_le v u with hu | hu
    · exact hn u hu a2
    · exact h4 u a1 hu
  · refine Or.inr ⟨h1, h2, by omega, h4, fun u a1 a2 => ?_, ?_⟩
    · rcases Int.lt_or_le v u with hu | hu
      · exact absurd a1.1 (hn u hu a2)
      · exact h5 u a1 hu
    · rcases h6 with h6 | ⟨h6, h7⟩
      · exact Or.inl h6
      · exact Or.inr ⟨h6, fun u hu => by have := h7 u hu; omega⟩
/-- stopped: no place behind is looked at any more -/
theorem fnd_stop {q : PQ} {ls : Int → Int} {at0 v v' fi a b : Int} (h : fnd q ls at0 v fi 0 a b) (hv : v ≤ v') : fnd q ls at0 v' fi 0 a b := by
  rcases h with ⟨h1, h2, -⟩ | ⟨h1, h2, h3, h4, h5, h6⟩
  · omega
  · rcases h6 with h6 | ⟨h6, h7⟩
    · omega
    · exact Or.inr ⟨h1, h2, by omega, h4, fun u a1 a2 => h5 u a1 (h7 u a1), Or.inr ⟨rfl, fun u hu => by have := h7 u hu; omega⟩⟩
/-- the next place u, within -/
theorem fnd_in {q : PQ} {ls : Int → Int} {at0 v u fi a b : Int} (h : fnd q ls at0 v fi 1 a b) (hv : v < u) (ha : at0 ≤ v) (hu : isSp q u) (hn : ∀ t, v < t → t < u → ¬ isSp q t) (hg : fi = 1 ∨ len q at0 u ≤ pW q) (hb : cost q at0 u + ls u ≤ 1000000000) :
    (cost q at0 u + ls u ≤ a → fnd q ls at0 u 0 1 (cost q at0 u + ls u) u) ∧ (¬ cost q at0 u + ls u ≤ a → fnd q ls at0 u 0 1 a b) := by
  rcases h with ⟨h1, h2, h3, h4⟩ | ⟨h1, h2, h3, h4, h5, h6⟩
  · have hf : feas q at0 u := ⟨hu, by omega, Or.inr fun t a1 a2 => by
      rcases Int.lt_or_le v t with z | z
      · exact hn t z a2
      · exact h4 t a1 z⟩
    refine ⟨fun hs => Or.inr ⟨rfl, hf, Int.le_refl _, rfl, fun t a1 a2 => ?_, Or.inl rfl⟩, fun hs => by omega⟩
    rcases Int.lt_or_le v t with z | z
    · rcases Int.lt_or_le t u with z2 | z2
      · exact absurd a1.1 (hn t z z2)
      · have : t = u := by omega
        subst this
        exact Or.inl ⟨Int.le_refl _, Int.le_refl _⟩
    · exact absurd a1.1 (h4 t a1.2.1 z)
  · have hf : feas q at0 u := ⟨hu, by omega, Or.inl (by omega)⟩
    have key : ∀ t, feas q at0 t → t ≤ u → t ≤ v ∨ t = u := fun t a1 a2 => by
      rcases Int.lt_or_le v t with z | z
      · rcases Int.lt_or_le t u with z2 | z2
        · exact absurd a1.1 (hn t z z2)
        · exact Or.inr (by omega)
      · exact Or.inl z
    refine ⟨fun hs => Or.inr ⟨rfl, hf, Int.le_refl _, rfl, fun t a1 a2 => ?_, Or.inl rfl⟩, fun hs => Or.inr ⟨rfl, h2, by omega, h4, fun t a1 a2 => ?_, Or.inl rfl⟩⟩
    · rcases key t a1 a2 with z | z
      · have := h5 t a1 z
        exact Or.inl ⟨a2, by omega⟩
      · subst z
        exact Or.inl ⟨Int.le_refl _, Int.le_refl _⟩
    · rcases key t a1 a2 with z | z
      · exact h5 t a1 z
      · subst z
        exact Or.inr ⟨by omega, by omega⟩
/-- the next place u, too far -/
theorem fnd_out {q : PQ} (hq : pOk q) {ls : Int → Int} {at0 v u fi a b : Int} (h : fnd q ls at0 v fi 1 a b) (hv : v < u) (hu : isSp q u) (hn : ∀ t, v < t → t < u → ¬ isSp q t) (hg : ¬ (fi = 1 ∨ len q at0 u ≤ pW q)) : fnd q ls at0 u 0 0 a b := by
  rcases h with ⟨h1, h2, h3, h4⟩ | ⟨h1, h2, h3, h4, h5, h6⟩
  · omega
  · have key : ∀ t, feas q at0 t → t ≤ v := fun t a1 => by
      rcases Int.lt_or_le v t with z | z
      · exfalso
        have z2 : u ≤ t := by
          rcases Int.lt_or_le t u with z2 | z2
          · exact absurd a1.1 (hn t z z2)
          · exact z2
        have hl : len q at0 u ≤ len q at0 t := by
          rcases Int.lt_or_le u t with z3 | z3
          · exact len_mono hq hu a1.1 z3
          · have : t = u := by omega
            subst this
            exact Int.le_refl _
        rcases a1.2.2 with z4 | z4
        · omega
        · exact z4 b h2.2.1 (by omega) h2.1
      · exact z
    exact Or.inr ⟨rfl, h2, by omega, h4, fun t a1 a2 => h5 t a1 (key t a1), Or.inr ⟨rfl, fun t a1 => by have := key t a1; omega⟩⟩
theorem fnd_end {q : PQ} {ls nx : Int → Int} {at0 v fi go a b : Int} (h : fnd q ls at0 v fi go a b) (hat : at0 < 16 * pN q) (he : v = 16 * pN q ∨ go = 0) (hq : pOk q) : bestAt q (upI ls at0 a) (upI nx at0 b) at0 := by
  rcases h with ⟨h1, h2, h3, h4⟩ | ⟨h1, h2, h3, h4, h5, h6⟩
  · have hv : v = 16 * pN q := by omega
    exact absurd (isSp_end q) (h4 _ hat (by omega))
  · have hall : ∀ u, feas q at0 u → u ≤ v := fun u hu => by
      rcases h6 with h6 | ⟨-, h7⟩
      · have := (isSp_le hq hu.1).2
        omega
      · exact h7 u hu
    have e1 : upI nx at0 b at0 = b := upI_self _ _ _
    have e2 : upI ls at0 a at0 = a := upI_self _ _ _
    have e3 : ∀ u, at0 < u → upI ls at0 a u = ls u := fun u hu => upI_ne _ (by omega)
    refine ⟨by rw [e1]; exact h2, by rw [e1, e2, e3 b h2.2.1]; exact h4, fun u hu => ?_⟩
    rw [e1, e2, e3 u hu.2.1]
    exact h5 u hu (hall u hu)
/-- what is best from t on rests on what lies behind t alone -/
theorem bestAt_congr {q : PQ} {ls ls' nx nx' : Int → Int} {t : Int} (hls : ∀ u, t ≤ u → ls' u = ls u) (hnx : nx' t = nx t) (h : bestAt q ls nx t) : bestAt q ls' nx' t := by
  obtain ⟨h1, h2, h3⟩ := h
  refine ⟨by rw [hnx]; exact h1, by rw [hnx, hls t (Int.le_refl t), hls _ (Int.le_of_lt h1.2.1)]; exact h2, fun u hu => ?_⟩
  rw [hnx, hls t (Int.le_refl t), hls u (Int.le_of_lt hu.2.1)]
  exact h3 u hu
theorem best_bd {q : PQ} (hq : pOk q) {ls nx : Int → Int} (h0 : ls (16 * pN q) = 0) (lo : Int) (h : ∀ t, isSp q t → lo ≤ t → t < 16 * pN q → bestAt q ls nx t) : ∀ t, isSp q t → lo ≤ t → 0 ≤ ls t ∧ ls t ≤ 10030 * (16 * pN q - t) := by
  have key : ∀ (n : Nat) (t : Int), 16 * pN q - t < n → isSp q t → lo ≤ t → 0 ≤ ls t ∧ ls t ≤ 10030 * (16 * pN q - t) := by
    intro n
    induction n with
    | zero =>
      intro t h1 h2
      have := (isSp_le hq h2).2
      omega
    | succ n ih =>
      intro t h1 h2 h3
      rcases Int.lt_or_le t (16 * pN q) with z | z
      · obtain ⟨b1, b2, -⟩ := h t h2 h3 z
        have c1 := cost_bd hq h2 b1.1 b1.2.1
        have hlt := b1.2.1
        have c2 := ih (nx t) (by omega) b1.1 (by omega)
        omega
      · have := (isSp_le hq h2).2
        have e : t = 16 * pN q := by omega
        subst e
        rw [h0]
        omega
  exact fun t h1 h2 => key ((16 * pN q - t).toNat + 1) t (by omega) h1 h2
/-- the best lines are one -/
theorem best_uniq {q : PQ} (hq : pOk q) {ls nx ls' nx' : Int → Int} (h : best q ls nx) (h' : best q ls' nx') : ∀ t, isSp q t → ls t = ls' t ∧ (t < 16 * pN q → nx t = nx' t) := by
  have key : ∀ (n : Nat) (t : Int), 16 * pN q - t < n → isSp q t → ls t = ls' t ∧ (t < 16 * pN q → nx t = nx' t) := by
    intro n
    induction n with
    | zero =>
      intro t h1 h2
      have := (isSp_le hq h2).2
      omega
    | succ n ih =>
      intro t h1 h2
      rcases Int.lt_or_le t (16 * pN q) with z | z
      · obtain ⟨a1, a2, a3⟩ := h.2 t h2 z
        obtain ⟨b1, b2, b3⟩ := h'.2 t h2 z
        have e1 := (ih (nx t) (by have := a1.2.1; omega) a1.1).1
        have e2 := (ih (nx' t) (by have := b1.2.1; omega) b1.1).1
        have c1 := a3 _ b1
        have c2 := b3 _ a1
        rw [e2] at c1
        rw [← e1] at c2
        constructor
        · omega
        · intro _
          omega
      · have := (isSp_le hq h2).2
        have e : t = 16 * pN q := by omega
        subst e
        exact ⟨h.1.trans h'.1.symm, fun q => by omega⟩
  exact fun t h1 => key ((16 * pN q - t).toNat + 1) t (by omega) h1
