/-! ===== plain law 26: the queue of suggestions ===== -/
set_option maxRecDepth 100000
/-- a word, its count, its distance -/
abbrev It : Type := Wd × Nat × Nat
def iLb (a b : It) : Bool := decide (a.2.2 < b.2.2) || (decide (a.2.2 = b.2.2) && (decide (b.2.1 < a.2.1) || (decide (a.2.1 = b.2.1) && wlt a.1 b.1)))
theorem iLb_iff {a b : It} : iLb a b = true ↔ a.2.2 < b.2.2 ∨ (a.2.2 = b.2.2 ∧ (b.2.1 < a.2.1 ∨ (a.2.1 = b.2.1 ∧ wlt a.1 b.1 = true))) := by simp [iLb]
theorem iLb_asy {a b : It} (h : iLb a b = true) : ¬ iLb b a = true := by
  intro h'
  rw [iLb_iff] at h h'
  rcases h with h | ⟨h1, h | ⟨h2, h⟩⟩ <;> rcases h' with g | ⟨g1, g | ⟨g2, g⟩⟩ <;> first | omega | (rw [wlt_asy h] at g; cases g)
theorem iLb_irr (a : It) : ¬ iLb a a = true := fun h => iLb_asy h h
theorem iLb_tr {a b c : It} (h : iLb a b = true) (h' : iLb b c = true) : iLb a c = true := by
  rw [iLb_iff] at h h' ⊢
  rcases h with h | ⟨h1, h | ⟨h2, h⟩⟩ <;> rcases h' with g | ⟨g1, g | ⟨g2, g⟩⟩
  · exact Or.inl (by omega)
  · exact Or.inl (by omega)
  · exact Or.inl (by omega)
  · exact Or.inl (by omega)
  · exact Or.inr ⟨by omega, Or.inl (by omega)⟩
  · exact Or.inr ⟨by omega, Or.inl (by omega)⟩
  · exact Or.inl (by omega)
  · exact Or.inr ⟨by omega, Or.inl (by omega)⟩
  · exact Or.inr ⟨by omega, Or.inr ⟨by omega, wlt_tr _ _ _ h g⟩⟩
theorem iLb_tri {a b : It} (h : ¬ iLb a b = true) (h' : ¬ iLb b a = true) : a = b := by
  rw [iLb_iff] at h h'
  have e1 : a.2.2 = b.2.2 := by
    apply Classical.byContradiction
    intro z
    rcases Nat.lt_or_gt_of_ne z with y | y
    · exact h (Or.inl y)
    · exact h' (Or.inl y)
  have e2 : a.2.1 = b.2.1 := by
    apply Classical.byContradiction
    intro z
    rcases Nat.lt_or_gt_of_ne z with y | y
    · exact h' (Or.inr ⟨e1.symm, Or.inl y⟩)
    · exact h (Or.inr ⟨e1, Or.inl y⟩)
  have e3 : a.1 = b.1 := by
    apply wlt_tri
    · apply Bool.eq_false_iff.mpr
      exact fun z => h (Or.inr ⟨e1, Or.inr ⟨e2, z⟩⟩)
    · apply Bool.eq_false_iff.mpr
      exact fun z => h' (Or.inr ⟨e1.symm, Or.inr ⟨e2.symm, z⟩⟩)
  exact Prod.ext e3 (Prod.ext e2 e1)
/-- not greater is transitive -/
theorem iLb_nt {a b c : It} (h : ¬ iLb b a = true) (h' : ¬ iLb c b = true) : ¬ iLb c a = true := by
  intro z
  by_cases e : iLb a b = true
  · exact h' (iLb_tr z e)
  · have := iLb_tri e h
    rw [this] at z
    exact h' z
def pSg (o : gO) (G : hG) (s : Nat) (e : It) : Prop := hC G s = some (6, true) ∧ o s = (0, 0) ∧ (∃ w, hR G s 0 = some w ∧ pW o G w e.1) ∧ hI G s 1 = nI e.2.1 ∧ hI G s 2 = nI e.2.2 ∧ e.2.1 < 2 ^ 30 ∧ e.2.2 < 2 ^ 30
theorem pSg.fr {M : Nat × Nat → Prop} {o o' : gO} {G G' : hG} {s : Nat} {e : It} (h : pSg o G s e) (hf : gFr M o G o' G') (h0 : ¬ M (0, 0)) : pSg o' G' s e := by
  obtain ⟨h1, h2, ⟨w, h3, h4⟩, h5, h6, h7⟩ := h
  have s := hf.S h1 h2 h0
  exact ⟨hf.C h1, (hf.O h1).trans h2, ⟨w, s.R h3, h4.fr hf h0⟩, s.I h5, s.I h6, h7⟩
theorem s_ncmp {Q : hG → Int32 → Prop} {o : gO} {G : hG} {s t cm : Nat} {a b : It} (h : pSg o G s a) (h' : pSg o G t b) (hc : hC G cm = some (23, true)) (hQ : ∀ z : Int32, (z < 0 ↔ iLb a b = true) → (0 < z ↔ iLb b a = true) → Q G z) : wX6_compare Q cm (some s) (some t) G := by
  obtain ⟨h1, h2, ⟨w, h3, h4⟩, h5, h6, h7, h8⟩ := h
  obtain ⟨g1, g2, ⟨x, g3, g4⟩, g5, g6, g7, g8⟩ := h'
  unfold wX6_compare
  refine ⟨fun y e => by cases e; exact hclt h1, fun y e => by cases e; exact hclt g1, s, rfl, t, rfl, hclt hc, ?_⟩
  unfold wX6_compare_2
  refine ⟨hclt h1, hclt g1, ?_⟩
  rw [h6, g6]
  have hlt : ∀ {i j : Nat}, i < 2 ^ 30 → j < 2 ^ 30 → (nI i < nI j ↔ i < j) := fun hi hj => nI_ltI (by omega) (by omega)
  have n1 : ¬ (0 : Int32) < -1 := by decide
  have n2 : ¬ (1 : Int32) < 0 := by decide
  have p1 : (0 : Int32) < 1 := by decide
  have p2 : (-1 : Int32) < 0 := by decide
  have q1 : ¬ (1 : Int32) = 0 := by decide
  have q2 : ¬ (-1 : Int32) = 0 := by decide
  refine s_icmp (fun e => br_t rfl ⟨hclt g1, hclt h1, ?_⟩) (fun e => br_f q1 ?_) (fun e => br_f q2 ?_)
  · have e0 : a.2.2 = b.2.2 := (nI_eq (by omega) (by omega)).mp e
    rw [h5, g5]
    refine s_icmp (fun e => ?_) (fun e => ?_) (fun e => ?_)
    · have e1 : a.2.1 = b.2.1 := ((nI_eq (by omega) (by omega)).mp e).symm
      unfold wX6_compare_2_b31
      refine br_t rfl ⟨hclt h1, hlet_i ⟨hclt g1, hlet_i ⟨w, h3, x, g3, hclt h4.1, ?_⟩⟩⟩
      have := s_compareTo (Q := fun G9 z10 => wX6_compare_2_b51 Q z10 G9) h4 g4 (fun z hz => ?_)
      · unfold wX5_compareTo at this
        obtain ⟨-, y, e9, -, t9⟩ := this
        cases e9
        exact t9
      · refine hQ z ?_ ?_
        · rw [hz.2, iLb_iff]
          constructor
          · exact fun z => Or.inr ⟨e0, Or.inr ⟨e1, z⟩⟩
          · rintro (z | ⟨-, z | ⟨-, z⟩⟩)
            · omega
            · omega
            · exact z
        · rw [hz.gt, iLb_iff]
          constructor
          · exact fun z => Or.inr ⟨e0.symm, Or.inr ⟨e1.symm, z⟩⟩
          · rintro (z | ⟨-, z | ⟨-, z⟩⟩)
            · omega
            · omega
            · exact z
    · have e1 : a.2.1 < b.2.1 := (hlt h7 g7).mp e
      unfold wX6_compare_2_b31 wX6_compare_2_b51
      refine br_f q1 (hQ 1 ⟨fun z => absurd z n2, fun z => ?_⟩ ⟨fun _ => iLb_iff.mpr (Or.inr ⟨e0.symm, Or.inl e1⟩), fun _ => p1⟩)
      rw [iLb_iff] at z
      omega
    · have e1 : b.2.1 < a.2.1 := (hlt g7 h7).mp e
      unfold wX6_compare_2_b31 wX6_compare_2_b51
      refine br_f q2 (hQ (-1) ⟨fun _ => iLb_iff.mpr (Or.inr ⟨e0, Or.inl e1⟩), fun _ => p2⟩ ⟨fun z => absurd z n1, fun z => ?_⟩)
      rw [iLb_iff] at z
      omega
  · have e0 : b.2.2 < a.2.2 := (hlt g8 h8).mp e
    unfold wX6_compare_2_b31 wX6_compare_2_b51
    refine br_f q1 (hQ 1 ⟨fun z => absurd z n2, fun z => ?_⟩ ⟨fun _ => iLb_iff.mpr (Or.inl e0), fun _ => p1⟩)
    rw [iLb_iff] at z
    omega
  · have e0 : a.2.2 < b.2.2 := (hlt h8 g8).mp e
    unfold wX6_compare_2_b31 wX6_compare_2_b51
    refine br_f q2 (hQ (-1) ⟨fun _ => iLb_iff.mpr (Or.inl e0), fun _ => p2⟩ ⟨fun z => absurd z n1, fun z => ?_⟩)
    rw [iLb_iff] at z
    omega
/-! heaps -/
def eqS (n : Nat) (f g : Nat → It) : Prop := (∀ y, (∃ j, j < n ∧ g j = y) ↔ (∃ j, j < n ∧ f j = y)) ∧ ((∀ i j, i < n → j < n → f i = f j → i = j) → ∀ i j, i < n → j < n → g i = g j → i = j)
theorem eqS.rf {n : Nat} {f : Nat → It} : eqS n f f := ⟨fun _ => Iff.rfl, fun h => h⟩
theorem eqS.tr {n : Nat} {f g h : Nat → It} (a : eqS n f g) (b : eqS n g h) : eqS n f h := ⟨fun y => (b.1 y).trans (a.1 y), fun z => b.2 (a.2 z)⟩
def swp (f : Nat → It) (i j : Nat) : Nat → It := fun t => if t = i then f j else if t = j then f i else f t
theorem swp_i {f : Nat → It} {i j : Nat} : swp f i j i = f j := if_pos rfl
theorem swp_j {f : Nat → It} {i j : Nat} (h : j ≠ i) : swp f i j j = f i := (if_neg h).trans (if_pos rfl)
theorem swp_n {f : Nat → It} {i j t : Nat} (h : t ≠ i) (h' : t ≠ j) : swp f i j t = f t := (if_neg h).trans (if_neg h')
theorem eqS.sw {n i j : Nat} {f : Nat → It} (hi : i < n) (hj : j < n) : eqS n f (swp f i j) := by
  have hp : ∀ t, ∃ s, (t < n → s < n) ∧ swp f i j t = f s ∧ s = (if t = i then j else if t = j then i else t) := by
    intro t
    by_cases a : t = i
    · exact ⟨j, fun _ => hj, by rw [a]; exact swp_i, by rw [if_pos a]⟩
    · by_cases b : t = j
      · exact ⟨i, fun _ => hi, by rw [b]; exact swp_j (fun z => a (b.trans z)), by rw [if_neg a, if_pos b]⟩
      · exact ⟨t, fun z => z, swp_n a b, by rw [if_neg a, if_neg b]⟩
  refine ⟨fun y => ⟨fun ⟨t, h1, h2⟩ => ?_, fun ⟨t, h1, h2⟩ => ?_⟩, fun h a b ha hb e => ?_⟩
  · obtain ⟨s, h3, h4, -⟩ := hp t
    exact ⟨s, h3 h1, h4.symm.trans h2⟩
  · by_cases a : t = i
    · refine ⟨j, hj, ?_⟩
      by_cases b : j = i
      · rw [b, swp_i, ← a]
        exact h2
      · rw [swp_j b, ← a]
        exact h2
    · by_cases b : t = j
      · exact ⟨i, hi, by rw [swp_i, ← b]; exact h2⟩
      · exact ⟨t, h1, by rw [swp_n a b]; exact h2⟩
  · obtain ⟨s, h3, h4, h5⟩ := hp a
    obtain ⟨s', h3', h4', h5'⟩ := hp b
    have := h s s' (h3 ha) (h3' hb) (h4.symm.trans (e.trans h4'))
    rw [h5, h5'] at this
    by_cases a1 : a = i
    · rw [if_pos a1] at this
      by_cases b1 : b = i
      · omega
      · rw [if_neg b1] at this
        by_cases b2 : b = j
        · rw [if_pos b2] at this
          omega
        · rw [if_neg b2] at this
          omega
    · rw [if_neg a1] at this
      by_cases a2 : a = j
      · rw [if_pos a2] at this
        by_cases b1 : b = i
        · rw [if_pos b1] at this
          omega
        · rw [if_neg b1] at this
          by_cases b2 : b = j
          · omega
          · rw [if_neg b2] at this
            omega
      · rw [if_neg a2] at this
        by_cases b1 : b = i
        · rw [if_pos b1] at this
          omega
        · rw [if_neg b1] at this
          by_cases b2 : b = j
          · rw [if_pos b2] at this
            omega
          · rw [if_neg b2] at this
            omega
def hpH (f : Nat → It) (n : Nat) : Prop := ∀ j, 0 < j → j < n → ¬ iLb (f j) (f ((j - 1) / 2)) = true
/-- a heap but for k, which may be too small for its parent -/
def hpU (f : Nat → It) (n k : Nat) : Prop := (∀ j, 0 < j → j < n → j ≠ k → ¬ iLb (f j) (f ((j - 1) / 2)) = true) ∧ (0 < k → ∀ c, 0 < c → c < n → (c - 1) / 2 = k → ¬ iLb (f c) (f ((k - 1) / 2)) = true)
/-- a heap but for k, which may be too great for its children -/
def hpD (f : Nat → It) (n k : Nat) : Prop := (∀ j, 0 < j → j < n → (j - 1) / 2 ≠ k → ¬ iLb (f j) (f ((j - 1) / 2)) = true) ∧ (0 < k → ∀ c, 0 < c → c < n → (c - 1) / 2 = k → ¬ iLb (f c) (f ((k - 1) / 2)) = true)
theorem hpU.stop {f : Nat → It} {n k : Nat} (h : hpU f n k) (hk : 0 < k → ¬ iLb (f k) (f ((k - 1) / 2)) = true) : hpH f n := by
  intro j h1 h2
  by_cases e : j = k
  · rw [e]
    exact hk (by omega)
  · exact h.1 j h1 h2 e
theorem hpU.step {f : Nat → It} {n k : Nat} (h : hpU f n k) (h0 : 0 < k) (hkn : k < n) (hk : iLb (f k) (f ((k - 1) / 2)) = true) : hpU (swp f k ((k - 1) / 2)) n ((k - 1) / 2) := by
  obtain ⟨p, hp⟩ : ∃ p, p = (k - 1) / 2 := ⟨_, rfl⟩
  rw [← hp] at hk ⊢
  have hpk : p ≠ k := by omega
  have hB := h.2 h0
  rw [← hp] at hB
  constructor
  · intro j h1 h2 h3
    by_cases e : j = k
    · rw [e, ← hp, swp_i, swp_j hpk]
      exact iLb_asy hk
    · rw [swp_n e h3]
      by_cases e2 : (j - 1) / 2 = k
      · rw [e2, swp_i]
        exact hB j h1 h2 e2
      · by_cases e3 : (j - 1) / 2 = p
        · rw [e3, swp_j hpk]
          intro z
          have := h.1 j h1 h2 e
          rw [e3] at this
          exact this (iLb_tr z hk)
        · rw [swp_n e2 e3]
          exact h.1 j h1 h2 e
  · intro hp0 c h1 h2 h3
    have e4 : swp f k p ((p - 1) / 2) = f ((p - 1) / 2) := swp_n (by omega) (by omega)
    rw [e4]
    have h5 := h.1 p hp0 (by omega) hpk
    by_cases e : c = k
    · rw [e, swp_i]
      exact h5
    · rw [swp_n e (by omega)]
      have h6 := h.1 c h1 h2 e
      rw [h3] at h6
      exact iLb_nt h5 h6
theorem hpD.stop {f : Nat → It} {n k : Nat} (h : hpD f n k) (hk : ∀ c, 0 < c → c < n → (c - 1) / 2 = k → ¬ iLb (f c) (f k) = true) : hpH f n := by
  intro j h1 h2
  by_cases e : (j - 1) / 2 = k
  · rw [e]
    exact hk j h1 h2 e
  · exact h.1 j h1 h2 e
theorem hpD.step {f : Nat → It} {n k c : Nat} (h : hpD f n k) (hc0 : 0 < c) (hcn : c < n) (hck : (c - 1) / 2 = k) (hx : iLb (f c) (f k) = true) (hm : ∀ d, 0 < d → d < n → (d - 1) / 2 = k → ¬ iLb (f d) (f c) = true) : hpD (swp f k c) n c := by
  have hne : c ≠ k := by omega
  constructor
  · intro j h1 h2 h3
    by_cases e : j = c
    · rw [e, hck, swp_i, swp_j hne]
      exact iLb_asy hx
    · by_cases e2 : j = k
      · rw [e2, swp_i, swp_n (by omega) (by omega)]
        exact h.2 (by omega) c hc0 hcn hck
      · rw [swp_n e2 e]
        by_cases e3 : (j - 1) / 2 = k
        · rw [e3, swp_i]
          exact hm j h1 h2 e3
        · rw [swp_n e3 h3]
          exact h.1 j h1 h2 e3
  · intro _ d h1 h2 h3
    rw [hck, swp_i, swp_n (by omega) (by omega)]
    have := h.1 d h1 h2 (by omega)
    rw [h3] at this
    exact this
theorem hpH.min {f : Nat → It} {n : Nat} (h : hpH f n) : ∀ j, j < n → ¬ iLb (f j) (f 0) = true := by
  intro j
  induction j using Nat.strongRecOn with
  | ind j ih =>
    intro hj
    by_cases e : j = 0
    · rw [e]
      exact iLb_irr _
    · exact iLb_nt (ih ((j - 1) / 2) (by omega) (by omega)) (h j (by omega) hj)
