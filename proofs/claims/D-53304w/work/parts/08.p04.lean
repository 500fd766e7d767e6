/-! ===== plain law 4: lists of the JDK ===== -/
set_option maxRecDepth 100000
def gOnly (u : Nat × Nat) : Nat × Nat → Prop := fun v => v = u
/-- list a with array r holds L -/
def pALr (o : gO) (G : hG) (u : Nat × Nat) (a r : Nat) (L : List Nat) : Prop :=
  hC G a = some (18, true) ∧ o a = u ∧ hI G a 2 = nI L.length ∧ (∀ y ∈ L, hOb G hNob y) ∧ hR G a 1 = some r ∧ a ≠ r ∧
  ((L = [] ∧ r = hK G 1 ∧ hC G r = some (103, false) ∧ o r = (0, 0) ∧ hN G r = 0) ∨ (hC G r = some (103, true) ∧ o r = u ∧ L.length ≤ hN G r ∧ hN G r ≤ 40 ∧ 0 < hN G r ∧ ∀ k, k < L.length → hR G r k = L[k]?))
def pAL (o : gO) (G : hG) (u : Nat × Nat) (a : Nat) (L : List Nat) : Prop := ∃ r, pALr o G u a r L
theorem hOb.fr {M : Nat × Nat → Prop} {o o' : gO} {G G' : hG} {n y : Nat} (h : hOb G n y) (hf : gFr M o G o' G') : hOb G' n y := by
  obtain ⟨ci, h1, h2⟩ := h
  exact ⟨ci, h1, hf.cl h2⟩
theorem pALr.fr {M : Nat × Nat → Prop} {o o' : gO} {G G' : hG} {u : Nat × Nat} {a r : Nat} {L : List Nat} (h : pALr o G u a r L) (hf : gFr M o G o' G') (hu : ¬ M u) (h0 : ¬ M (0, 0)) : pALr o' G' u a r L := by
  obtain ⟨h1, h2, h3, h4, h5, h6, h7⟩ := h
  have s := hf.S h1 h2 hu
  refine ⟨hf.C h1, (hf.O h1).trans h2, s.I h3, fun y hy => (h4 y hy).fr hf, s.R h5, h6, ?_⟩
  rcases h7 with ⟨g1, g2, g3, g4, g5⟩ | ⟨g1, g2, g3, g4, g5, g6⟩
  · have s2 := hf.S g3 g4 h0
    exact Or.inl ⟨g1, by rw [hf.2]; exact g2, hf.C g3, (hf.O g3).trans g4, s2.N g5⟩
  · have s2 := hf.S g1 g2 hu
    exact Or.inr ⟨hf.C g1, (hf.O g1).trans g2, by rw [s2.1]; exact g3, by rw [s2.1]; exact g4, by rw [s2.1]; exact g5, fun k hk => s2.R (g6 k hk)⟩
theorem pAL.fr {M : Nat × Nat → Prop} {o o' : gO} {G G' : hG} {u : Nat × Nat} {a : Nat} {L : List Nat} (h : pAL o G u a L) (hf : gFr M o G o' G') (hu : ¬ M u) (h0 : ¬ M (0, 0)) : pAL o' G' u a L := by
  obtain ⟨r, h⟩ := h
  exact ⟨r, h.fr hf hu h0⟩
theorem pALr.cr {o : gO} {G : hG} {u : Nat × Nat} {a r : Nat} {L : List Nat} (h : pALr o G u a r L) : hcl G r 103 := by
  rcases h.2.2.2.2.2.2 with ⟨-, -, g3, -⟩ | ⟨g1, -⟩
  · exact hclf g3
  · exact hclt g1
theorem s_alsize {Q : hG → Int32 → Prop} {o : gO} {G : hG} {u : Nat × Nat} {a : Nat} {L : List Nat} (h : pAL o G u a L) (hQ : Q G (nI L.length)) : wJ6_size Q a G := by
  obtain ⟨r, h⟩ := h
  unfold wJ6_size
  refine ⟨hclt h.1, ?_⟩
  rw [h.2.2.1]
  exact hQ
theorem s_ckIndex {Q : hG → Int32 → Prop} {G : hG} {k n : Nat} (h : k < n) (hn : n < 2 ^ 31) (hQ : Q G (nI k)) : wJ11_checkIndex Q (nI k) (nI n) G := by
  unfold wJ11_checkIndex wJ29_checkIndex
  exact br_f (nI_pos (by omega)) (br_t (nI_lt h hn) hQ)
theorem pALr.len {o : gO} {G : hG} {u : Nat × Nat} {a r : Nat} {L : List Nat} (h : pALr o G u a r L) : L.length ≤ 40 ∧ L.length ≤ hN G r ∧ hN G r ≤ 40 := by
  rcases h.2.2.2.2.2.2 with ⟨g1, -, -, -, g5⟩ | ⟨-, -, g3, g4, -⟩
  · rw [g1, g5]
    simp
  · omega
theorem pALr.get {o : gO} {G : hG} {u : Nat × Nat} {a r k : Nat} {L : List Nat} (h : pALr o G u a r L) (hk : k < L.length) : hR G r k = some L[k] ∧ hC G r = some (103, true) ∧ o r = u ∧ L.length ≤ hN G r := by
  rcases h.2.2.2.2.2.2 with ⟨g1, -⟩ | ⟨g1, g2, g3, g4, -, g6⟩
  · rw [g1] at hk
    exact absurd hk (Nat.not_lt_zero _)
  · refine ⟨?_, g1, g2, g3⟩
    rw [g6 k hk, List.getElem?_eq_getElem hk]
theorem s_alElem {Q : hG → Option Nat → Prop} {o : gO} {G : hG} {u : Nat × Nat} {a r k : Nat} {L : List Nat} (h : pALr o G u a r L) (hk : k < L.length) (hQ : Q G (some L[k])) : wJ6_elementData Q a (nI k) G := by
  have hl := h.len
  obtain ⟨g1, g2, g3, g4⟩ := h.get hk
  unfold wJ6_elementData
  refine ⟨hclt h.1, hlet_i ⟨r, h.2.2.2.2.1, hclt g2, vp_in_nI (by omega) (by omega), hlet_i ?_⟩⟩
  rw [nI_clamp (by omega), g1]
  exact hQ
theorem s_alget {Q : hG → Option Nat → Prop} {o : gO} {G : hG} {u : Nat × Nat} {a k : Nat} {L : List Nat} (h : pAL o G u a L) (hk : k < L.length) (hQ : Q G (some L[k])) : wJ6_get Q a (nI k) G := by
  obtain ⟨r, h⟩ := h
  have hl := h.len
  unfold wJ6_get
  refine ⟨hclt h.1, ?_⟩
  rw [h.2.2.1]
  exact s_ckIndex hk (by omega) ⟨hclt h.1, s_alElem h hk hQ⟩
theorem hob_tk {G : hG} {y : Nat} (h : hOb G hNob y) : hTk G 3 (some y) := by
  intro z hz
  cases hz
  rw [if_pos rfl]
  exact h
theorem s_alset {Q : hG → Option Nat → Prop} {o : gO} {G : hG} {u : Nat × Nat} {a k y : Nat} {L : List Nat} (h : pAL o G u a L) (hk : k < L.length) (hy : hOb G hNob y) (hQ : ∀ G', pAL o G' u a (L.set k y) → gFr (gOnly u) o G o G' → Q G' (some L[k])) : wJ6_set Q a (nI k) (some y) G := by
  obtain ⟨r, h⟩ := h
  have hl := h.len
  obtain ⟨g1, g2, g3, g4⟩ := h.get hk
  unfold wJ6_set
  refine ⟨hclt h.1, ?_⟩
  rw [h.2.2.1]
  refine s_ckIndex hk (by omega) ⟨hclt h.1, s_alElem h hk ⟨hclt h.1, hlet_i ⟨r, h.2.2.2.2.1, g2, vp_in_nI (by omega) (by omega), hob_tk hy, hlet_i ?_⟩⟩⟩
  rw [nI_clamp (by omega)]
  obtain ⟨h1, h2, h3, h4, h5, h6, h7⟩ := h
  refine hQ _ ⟨r, h1, h2, ?_, ?_, ?_, h6, Or.inr ?_⟩ (gFr.rf.sR (Or.inr g3))
  · rw [hI_sR, List.length_set]
    exact h3
  · intro z hz
    rcases List.mem_or_eq_of_mem_set hz with hz | hz
    · exact h4 z hz
    · rw [hz]
      exact hy
  · rw [hR_sR, if_neg (fun z => h6 z.1)]
    exact h5
  · rcases h7 with ⟨e1, -⟩ | ⟨e1, e2, e3, e4, e5, e6⟩
    · rw [e1] at hk
      exact absurd hk (Nat.not_lt_zero _)
    · refine ⟨e1, e2, by rw [List.length_set]; exact e3, e4, e5, fun j hj => ?_⟩
      rw [hR_sR, List.getElem?_set]
      rw [List.length_set] at hj
      by_cases e : j = k
      · subst e
        simp [hj]
      · rw [if_neg (fun z => e z.2), if_neg (fun z => e z.symm)]
        exact e6 j hj
theorem s_newLen {Q : hG → Int32 → Prop} {G : hG} {a b c : Nat} (h : 0 < a + max b c) (ha : a ≤ 1000) (hb : b ≤ 1000) (hc : c ≤ 1000) (hQ : Q G (nI (a + max b c))) : wJ25_newLength Q (nI a) (nI b) (nI c) G := by
  have e : nI a + hMx (nI b) (nI c) = nI (a + max b c) := by
    unfold hMx
    by_cases z : b < c
    · rw [if_pos (nI_lt z (by omega)), nI_add, Nat.max_eq_right (by omega)]
    · rw [if_neg (nI_nlt (by omega) (by omega)), nI_add, Nat.max_eq_left (by omega)]
  unfold wJ25_newLength
  rw [e]
  refine br_f (nI_nle h (by omega)) (br_f ?_ hQ)
  exact nI_nlt (a := 2147483639) (by omega) (by decide)
/-- the copy of an array's first elements -/
theorem s_copyOf {Q : hG → Option Nat → Prop} {G : hG} {r n : Nat} (hr : hC G r = some (103, true)) (hn : n ≤ 64) (hN9 : hN G r ≤ 1000) (hk : ∀ i, i < min (hN G r) n → ∀ y, hR G r i = some y → hOb G hNob y) (hQ : ∀ q, hfr G q → Q (hcpR (hnw G q 103 n) q 0 (hR G r) 0 (min (hN G r) n)) (some q)) : wJ33_copyOf_2 Q r (nI n) G := by
  unfold wJ33_copyOf_2
  refine ⟨Or.inl hr, ?_⟩
  unfold wJ33_copyOf_3
  refine br_t rfl ⟨nI_pos (by omega), by rw [nI_clamp (by omega)]; exact hn, fun q hq => hlet_i ?_⟩
  rw [nI_clamp (by omega)]
  have hqr : r ≠ q := by
    intro z
    subst z
    rw [hq] at hr
    cases hr
  have hrC : hC (hnw G q 103 n) r = some (103, true) := by rw [hC_nw, if_neg hqr]; exact hr
  have hrN : hN (hnw G q 103 n) r = hN G r := by rw [hN_nw, if_neg hqr]
  have hmn : hMn (nI (hN (hnw G q 103 n) r)) (nI n) = nI (min (hN G r) n) := by
    rw [hrN]
    unfold hMn
    by_cases z : n < hN G r
    · rw [if_pos (nI_lt z (by omega)), Nat.min_eq_right (by omega)]
    · rw [if_neg (nI_nlt (by omega) (by omega)), Nat.min_eq_left (by omega)]
  rw [hmn, sb_cl0, nI_clamp (by omega), Nat.zero_add]
  have hR9 : hR (hnw G q 103 n) r = hR G r := by
    funext j
    rw [hR_nw, if_neg hqr]
  rw [hR9]
  have hq1 : hC (hnw G q 103 n) q = some (103, true) := by rw [hC_nw, if_pos rfl]
  refine ⟨hclt hrC, Or.inl ⟨hrC, hq1, by decide, by decide, nI_pos (by omega), by rw [hrN]; exact Nat.min_le_left _ _, by rw [hN_nw, if_pos rfl]; exact Nat.min_le_right _ _, fun i hi y hy => ?_, hlet_i (hQ q hq)⟩⟩
  rw [Nat.zero_add] at hy
  exact hOb.fr (o := fun _ => (0, 0)) (M := fun _ => True) (hk i hi y hy) ((gFr.rf).nw (0, 0) hq)
/-- the array grows: place for one more -/
theorem s_grow1 {Q : hG → Option Nat → Prop} {o : gO} {G : hG} {u : Nat × Nat} {a r : Nat} {L : List Nat} (h : pALr o G u a r L) (hn : L.length = hN G r) (hl : L.length ≤ 24) (hQ : ∀ o' G' r', pALr o' G' u a r' L → L.length < hN G' r' → hC G' r' = some (103, true) → gFr (gOnly u) o G o' G' → Q G' (some r')) : wJ6_grow_2 Q a (nI (L.length + 1)) G := by
  have hcr := h.cr
  have hl2 := h.len
  obtain ⟨h1, h2, h3, h4, h5, h6, h7⟩ := h
  unfold wJ6_grow_2
  refine ⟨hclt h1, hlet_i ⟨r, h5, hcr, ?_⟩⟩
  rcases h7 with ⟨e1, e2, e3, e4, e5⟩ | ⟨e1, e2, e3, e4, e5, e6⟩
  · rw [e5]
    refine br_f (by decide) ⟨hclt h1, hlet_i (br_t (by rw [h5, e2]) ?_)⟩
    rw [e1, List.length_nil]
    refine ⟨by decide, by decide, fun q hq => hlet_i ?_⟩
    rw [show Int32.toNatClampNeg (hMx (10 : Int32) (nI (0 + 1))) = 10 by decide]
    have haq : a ≠ q := by
      intro z
      subst z
      rw [hq] at h1
      cases h1
    refine ⟨by rw [hC_nw, if_neg haq]; exact h1, hlet_i ?_⟩
    have hf := ((gFr.rf (M := gOnly u) (o := o) (G := G)).nw (n := 10) (ci := 103) u hq).sR (a := a) (k := 1) (x := some q) (Or.inr h2)
    refine hQ _ _ q ⟨?_, by rw [gU_n haq]; exact h2, ?_, fun y hy => (h4 y hy).fr hf, ?_, haq, Or.inr ⟨?_, gU_s, ?_, ?_, ?_, fun k hk => ?_⟩⟩ ?_ ?_ hf
    · rw [hC_sR, hC_nw, if_neg haq]
      exact h1
    · rw [hI_sR, hI_nw, if_neg haq]
      exact h3
    · rw [hR_sR, if_pos ⟨rfl, rfl⟩]
    · rw [hC_sR, hC_nw, if_pos rfl]
    · rw [hN_sR, hN_nw, if_pos rfl, e1]
      simp
    · rw [hN_sR, hN_nw, if_pos rfl]
      omega
    · rw [hN_sR, hN_nw, if_pos rfl]
      omega
    · rw [e1] at hk
      exact absurd hk (Nat.not_lt_zero _)
    · rw [hN_sR, hN_nw, if_pos rfl, e1]
      simp
    · rw [hC_sR, hC_nw, if_pos rfl]
  · refine br_t (by rw [show (0 : Int32) = nI 0 from rfl]; exact nI_lt e5 (by omega)) ?_
    unfold wJ6_grow_2_b20
    rw [← hn, nI_sub (by omega), show L.length + 1 - L.length = 1 by omega, show (nI L.length >>> ((1 : Int32) &&& 31)) = nI (L.length / 2) from pk_shrN (k := 1) (by omega) _ (by decide)]
    refine s_newLen (by omega) (by omega) (by omega) (by omega) ⟨hclt h1, hlet_i ⟨r, h5, ?_⟩⟩
    refine s_copyOf e1 (by omega) (by omega) (fun i hi y hy => ?_) (fun q hq => ?_)
    · rw [e6 i (by omega)] at hy
      exact h4 y (List.mem_of_getElem? hy)
    · have haq : a ≠ q := by
        intro z
        subst z
        rw [hq] at h1
        cases h1
      have hn' : min (hN G r) (L.length + max 1 (L.length / 2)) = L.length := by omega
      rw [hn']
      obtain ⟨m, hm⟩ : ∃ m, m = L.length + max 1 (L.length / 2) := ⟨_, rfl⟩
      rw [← hm]
      refine ⟨by rw [hC_cpR, hC_nw, if_neg haq]; exact h1, hlet_i ?_⟩
      have hf := (((gFr.rf (M := gOnly u) (o := o) (G := G)).nw (n := m) (ci := 103) u hq).cpR (a := q) (dp := 0) (sp := 0) (n := L.length) (f := hR G r) (Or.inl hq)).sR (a := a) (k := 1) (x := some q) (Or.inr h2)
      refine hQ _ _ q ⟨?_, by rw [gU_n haq]; exact h2, ?_, fun y hy => (h4 y hy).fr hf, ?_, haq, Or.inr ⟨?_, gU_s, ?_, ?_, ?_, fun k hk => ?_⟩⟩ ?_ ?_ hf
      · rw [hC_sR, hC_cpR, hC_nw, if_neg haq]
        exact h1
      · rw [hI_sR, hI_cpR, hI_nw, if_neg haq]
        exact h3
      · rw [hR_sR, if_pos ⟨rfl, rfl⟩]
      · rw [hC_sR, hC_cpR, hC_nw, if_pos rfl]
      · rw [hN_sR, hN_cpR, hN_nw, if_pos rfl]
        omega
      · rw [hN_sR, hN_cpR, hN_nw, if_pos rfl]
        omega
      · rw [hN_sR, hN_cpR, hN_nw, if_pos rfl]
        omega
      · rw [hR_sR, if_neg (fun z => haq z.1.symm), hR_cpR, if_pos rfl, pk_cpy_in (Nat.zero_le _) (by omega), show 0 + (k - 0) = k by omega]
        exact e6 k hk
      · rw [hN_sR, hN_cpR, hN_nw, if_pos rfl]
        omega
      · rw [hC_sR, hC_cpR, hC_nw, if_pos rfl]
theorem s_alPut {Q : hG → Prop} {o : gO} {G : hG} {u : Nat × Nat} {a r y : Nat} {L : List Nat} (h : pALr o G u a r L) (hn : L.length < hN G r) (hr : hC G r = some (103, true)) (hy : hOb G hNob y) (hQ : ∀ G', pAL o G' u a (L ++ [y]) → gFr (gOnly u) o G o G' → Q G') : wJ6_add_2_b11 Q a (some y) (some r) (nI L.length) G := by
  have hl2 := h.len
  obtain ⟨h1, h2, h3, h4, h5, h6, h7⟩ := h
  unfold wJ6_add_2_b11
  refine ⟨r, rfl, hr, vp_in_nI hn (by omega), hob_tk hy, hlet_i ⟨h1, hlet_i ?_⟩⟩
  rw [nI_clamp (by omega), show nI L.length + 1 = nI (L.length + 1) from nI_1 _]
  rcases h7 with ⟨e1, e2, e3, e4, e5⟩ | ⟨e1, e2, e3, e4, e5, e6⟩
  · rw [e5] at hn
    exact absurd hn (Nat.not_lt_zero _)
  · refine hQ _ ⟨r, h1, h2, ?_, ?_, ?_, h6, Or.inr ⟨e1, e2, ?_, e4, e5, fun k hk => ?_⟩⟩ ((gFr.rf.sR (Or.inr e2)).sI (Or.inr h2))
    · rw [hI_sI, if_pos ⟨rfl, rfl⟩, List.length_append]
      rfl
    · intro z hz
      rcases List.mem_append.mp hz with hz | hz
      · exact h4 z hz
      · rw [List.mem_singleton.mp hz]
        exact hy
    · rw [hR_sI, hR_sR, if_neg (fun z => h6 z.1)]
      exact h5
    · rw [List.length_append]
      exact hn
    · rw [hR_sI, hR_sR]
      rw [List.length_append, List.length_singleton] at hk
      by_cases e : k = L.length
      · subst e
        simp
      · rw [if_neg (fun z => e z.2), List.getElem?_append_left (by omega)]
        exact e6 k (by omega)
theorem s_aladd {Q : hG → Int32 → Prop} {o : gO} {G : hG} {u : Nat × Nat} {a y : Nat} {L : List Nat} (h : pAL o G u a L) (hl : L.length ≤ 24) (hy : hOb G hNob y) (hQ : ∀ o' G', pAL o' G' u a (L ++ [y]) → gFr (gOnly u) o G o' G' → Q G' 1) : wJ6_add Q a (some y) G := by
  obtain ⟨r, h⟩ := h
  have hl2 := h.len
  have h1 := h.1
  unfold wJ6_add
  refine ⟨hclt h1, h1, hlet_e fun G3 e3 => ⟨?_, ?_⟩⟩
  · rw [e3]
    exact hclt h1
  have hf3 : gFr (gOnly u) o G o G3 := by
    rw [e3]
    exact gFr.rf.sI (Or.inr h.2.1)
  have h' : pALr o G3 u a r L := by
    obtain ⟨h1, h2, h3, h4, h5, h6, h7⟩ := h
    rw [e3]
    exact ⟨h1, h2, by rw [hI_sI, if_neg (fun z => by cases z.2)]; exact h3, h4, h5, h6, h7⟩
  refine hlet_i ⟨hclt h'.1, r, h'.2.2.2.2.1, hclt h'.1, ?_⟩
  rw [h'.2.2.1]
  unfold wJ6_add_2
  refine ⟨h'.cr, ?_, ?_⟩
  · intro e
    have hn : L.length = hN G3 r := (nI_eq (by omega) (by have := h'.len; omega)).mp e
    refine ⟨hclt h'.1, ?_⟩
    unfold wJ6_grow
    refine ⟨hclt h'.1, hclt h'.1, ?_⟩
    rw [h'.2.2.1, show nI L.length + 1 = nI (L.length + 1) from nI_1 _]
    refine s_grow1 h' hn hl fun o' G' r' g1 g2 g3 g4 => ?_
    exact s_alPut g1 g2 g3 (hy.fr (hf3.tr g4)) fun G'' k1 k2 => hQ _ _ k1 ((hf3.tr g4).tr k2)
  · intro e
    have hn : L.length ≠ hN G3 r := fun z => e (by rw [z])
    have hlen := h'.len
    have hr : hC G3 r = some (103, true) := by
      rcases h'.2.2.2.2.2.2 with ⟨e1, -, -, -, e5⟩ | ⟨e1, -⟩
      · rw [e1, e5] at hn
        exact absurd rfl hn
      · exact e1
    exact s_alPut h' (by omega) hr (hy.fr hf3) fun G'' k1 k2 => hQ _ _ k1 (hf3.tr k2)
theorem s_alremove {Q : hG → Option Nat → Prop} {o : gO} {G : hG} {u : Nat × Nat} {a k : Nat} {L : List Nat} (h : pAL o G u a L) (hk : k < L.length) (hQ : ∀ G', pAL o G' u a (L.eraseIdx k) → gFr (gOnly u) o G o G' → Q G' (some L[k])) : wJ6_remove Q a (nI k) G := by
  obtain ⟨r, h⟩ := h
  have hl := h.len
  obtain ⟨g1, g2, g3, g4⟩ := h.get hk
  obtain ⟨h1, h2, h3, h4, h5, h6, h7⟩ := h
  unfold wJ6_remove
  refine ⟨hclt h1, ?_⟩
  rw [h3]
  refine s_ckIndex hk (by omega) ⟨hclt h1, hlet_i ⟨r, h5, hclt g2, vp_in_nI (by omega) (by omega), hlet_i ⟨hclt h1, ?_⟩⟩⟩
  rw [nI_clamp (by omega), g1]
  unfold wJ6_fastRemove
  refine ⟨hclt h1, h1, hlet_e fun G3 e3 => ?_⟩
  have c3 : hC G3 = hC G := by rw [e3]; rfl
  have n3 : hN G3 = hN G := by rw [e3]; rfl
  have r3 : hR G3 = hR G := by rw [e3]; rfl
  have i3 : hI G3 a 2 = nI L.length := by rw [e3, hI_sI, if_neg (fun z => by cases z.2)]; exact h3
  have f3 : gFr (gOnly u) o G o G3 := by rw [e3]; exact gFr.rf.sI (Or.inr h2)
  rw [i3, show (1 : Int32) = nI 1 from rfl, nI_sub (by omega), c3]
  rcases h7 with ⟨e1, -⟩ | ⟨e1, e2, e3', e4, e5, e6⟩
  · rw [e1] at hk
    exact absurd hk (Nat.not_lt_zero _)
  have fin : ∀ G4, hC G4 = hC G → hN G4 = hN G → (∀ b j, b ≠ r → hR G4 b j = hR G b j) → (∀ j, j < L.length - 1 → hR G4 r j = (L.eraseIdx k)[j]?) → hI G4 = hI G3 → gFr (gOnly u) o G o G4 → wJ6_fastRemove_b34 (fun G15 => Q G15 (some L[k])) a r (nI (L.length - 1)) G4 := by
    intro G4 c4 n4 r4 s4 i4 f4
    unfold wJ6_fastRemove_b34
    refine ⟨by rw [c4]; exact h1, hlet_i ⟨?_, ?_, ?_, hlet_i ?_⟩⟩
    · rw [hC_sI, c4]
      exact g2
    · rw [hN_sI, n4]
      exact vp_in_nI (by omega) (by omega)
    · intro z hz
      cases hz
    · rw [nI_clamp (by omega)]
      refine hQ _ ⟨r, ?_, h2, ?_, ?_, ?_, h6, Or.inr ⟨?_, e2, ?_, ?_, ?_, ?_⟩⟩ ((f4.sI (Or.inr h2)).sR (Or.inr e2))
      · rw [hC_sR, hC_sI, c4]
        exact h1
      · rw [hI_sR, hI_sI, if_pos ⟨rfl, rfl⟩, List.length_eraseIdx_of_lt hk]
      · intro z hz
        exact (h4 z (List.mem_of_mem_eraseIdx hz)).fr ((f4.sI (k := 2) (x := nI (L.length - 1)) (Or.inr h2)).sR (k := L.length - 1) (x := none) (Or.inr e2))
      · rw [hR_sR, if_neg (fun z => h6 z.1), hR_sI, r4 _ _ h6]
        exact h5
      · rw [hC_sR, hC_sI, c4]
        exact g2
      · rw [hN_sR, hN_sI, n4, List.length_eraseIdx_of_lt hk]
        omega
      · rw [hN_sR, hN_sI, n4]
        exact e4
      · rw [hN_sR, hN_sI, n4]
        exact e5
      · intro j hj
        rw [List.length_eraseIdx_of_lt hk] at hj
        rw [hR_sR, if_neg (fun z => by omega), hR_sI]
        exact s4 j hj
  refine ⟨hclt (by rw [c3]; exact h1), ?_⟩
  refine br_c (fun e => ?_) (fun e => ?_)
  · have hk1 : L.length - 1 ≤ k := (nI_leI (by omega) (by omega)).mp e
    refine fin G3 c3 n3 (fun b j _ => by rw [r3]) (fun j hj => ?_) rfl f3
    rw [r3, e6 j (by omega), List.getElem?_eraseIdx_of_lt (by omega)]
  · have hk1 : k < L.length - 1 := by
      apply Nat.not_le.mp
      intro z
      exact e (nI_le z (by omega))
    rw [show nI k + nI 1 = nI (k + 1) from nI_1 _, nI_sub (by omega), nI_clamp (by omega), nI_clamp (by omega), nI_clamp (by omega), n3, r3]
    refine ⟨g2, g2, nI_pos (by omega), nI_pos (by omega), nI_pos (by omega), by omega, by omega, fun i hi y hy => ?_, hlet_i ?_⟩
    · rw [e6 _ (by omega)] at hy
      exact (h4 y (List.mem_of_getElem? hy)).fr f3
    · refine fin _ (by rw [hC_cpR]; exact c3) (by rw [hN_cpR]; exact n3) (fun b j hb => by rw [hR_cpR, if_neg hb, r3]) (fun j hj => ?_) rfl (f3.cpR (Or.inr e2))
      rw [hR_cpR, if_pos rfl]
      by_cases z : j < k
      · rw [pk_cpy_out (by omega), r3, e6 j (by omega), List.getElem?_eraseIdx_of_lt z]
      · rw [pk_cpy_in (by omega) (by omega), e6 _ (by omega), List.getElem?_eraseIdx_of_ge (by omega)]
        congr 1
        omega
