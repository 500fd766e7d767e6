/-! ===== plain law 24: distances: the numbers, the class's Way ===== -/
set_option maxRecDepth 100000
def lt (l : Wd) (k : Nat) : Nat := l.getD k 0
def dG (sk : Nat → Int32) (l : Wd) (i : Nat) : Nat := if 1 < i ∧ lt l (i - 2) = lt l (i - 1) ∧ sk (lt l (i - 1) - 1) = 2 then 1 else 3
def dC (sk : Nat → Int32) (m : Wd) (j : Nat) : Nat := if sk (lt m (j - 1) - 1) = 1 then 1 else 3
def dB (l m : Wd) (i j : Nat) : Nat := if lt l (i - 1) = lt m (j - 1) then 0 else if bes (lt l (i - 1) - 1) (lt m (j - 1) - 1) then 2 else 4
def dS (l m : Wd) (i j : Nat) : Bool := decide (1 < i) && (decide (1 < j) && (decide (lt l (i - 1) = lt m (j - 2)) && decide (lt l (i - 2) = lt m (j - 1))))
def dH (l : Wd) (i : Nat) : Nat := if hnd (lt l (i - 1) - 1) = hnd (lt l (i - 2) - 1) then 3 else 1
def dV1 (M i j : Nat) : Nat := if i = 0 ∧ j = 0 then 0 else M
def dV2 (sk : Nat → Int32) (l : Wd) (T : Nat → Nat → Nat) (i j a : Nat) : Nat := if 0 < i then min a (T (i - 1) j + dG sk l i) else a
def dV3 (sk : Nat → Int32) (m : Wd) (T : Nat → Nat → Nat) (i j a : Nat) : Nat := if 0 < j then min a (T i (j - 1) + dC sk m j) else a
def dV4 (l m : Wd) (T : Nat → Nat → Nat) (i j a : Nat) : Nat := if 0 < i ∧ 0 < j then min a (T (i - 1) (j - 1) + dB l m i j) else a
def dV5 (l m : Wd) (T : Nat → Nat → Nat) (i j a : Nat) : Nat := if dS l m i j then min a (T (i - 2) (j - 2) + dH l i) else a
def dVM (M : Nat) (sk : Nat → Int32) (l m : Wd) (T : Nat → Nat → Nat) (i j : Nat) : Nat := dV5 l m T i j (dV4 l m T i j (dV3 sk m T i j (dV2 sk l T i j (dV1 M i j))))
def dD (sk : Nat → Int32) (l m : Wd) (i j : Nat) : Nat := dVM 1000 sk l m (fun i' j' => if h : i' + j' < i + j then dD sk l m i' j' else 0) i j
termination_by i + j
decreasing_by exact h
theorem dS_1 {l m : Wd} {i j : Nat} (h : dS l m i j = true) : 1 < i ∧ 1 < j ∧ lt l (i - 1) = lt m (j - 2) ∧ lt l (i - 2) = lt m (j - 1) := by
  unfold dS at h
  simpa using h
theorem dVM_congr {M : Nat} {sk : Nat → Int32} {l m : Wd} {T T' : Nat → Nat → Nat} {i j : Nat} (h : ∀ i' j', i' ≤ i → j' ≤ j → i' + j' < i + j → T i' j' = T' i' j') : dVM M sk l m T i j = dVM M sk l m T' i j := by
  unfold dVM dV2 dV3 dV4 dV5
  have e2 : (if 0 < i then min (dV1 M i j) (T (i - 1) j + dG sk l i) else dV1 M i j) = (if 0 < i then min (dV1 M i j) (T' (i - 1) j + dG sk l i) else dV1 M i j) := by
    by_cases c : 0 < i
    · rw [if_pos c, if_pos c, h (i - 1) j (by omega) (by omega) (by omega)]
    · rw [if_neg c, if_neg c]
  rw [e2]
  have e3 : ∀ a, (if 0 < j then min a (T i (j - 1) + dC sk m j) else a) = (if 0 < j then min a (T' i (j - 1) + dC sk m j) else a) := fun a => by
    by_cases c : 0 < j
    · rw [if_pos c, if_pos c, h i (j - 1) (by omega) (by omega) (by omega)]
    · rw [if_neg c, if_neg c]
  rw [e3]
  have e4 : ∀ a, (if 0 < i ∧ 0 < j then min a (T (i - 1) (j - 1) + dB l m i j) else a) = (if 0 < i ∧ 0 < j then min a (T' (i - 1) (j - 1) + dB l m i j) else a) := fun a => by
    by_cases c : 0 < i ∧ 0 < j
    · rw [if_pos c, if_pos c, h (i - 1) (j - 1) (by omega) (by omega) (by omega)]
    · rw [if_neg c, if_neg c]
  rw [e4]
  by_cases c : dS l m i j = true
  · have := dS_1 c
    rw [if_pos c, if_pos c, h (i - 2) (j - 2) (by omega) (by omega) (by omega)]
  · rw [if_neg c, if_neg c]
theorem dD_eq (sk : Nat → Int32) (l m : Wd) (i j : Nat) : dD sk l m i j = dVM 1000 sk l m (dD sk l m) i j := by
  rw [dD]
  exact dVM_congr fun i' j' _ _ h => dif_pos h
theorem dG_le {sk : Nat → Int32} {l : Wd} {i : Nat} : dG sk l i ≤ 3 := by unfold dG; split <;> omega
theorem dC_le {sk : Nat → Int32} {l : Wd} {i : Nat} : dC sk l i ≤ 3 := by unfold dC; split <;> omega
theorem dB_le {l m : Wd} {i j : Nat} : dB l m i j ≤ 4 := by
  unfold dB
  split
  · omega
  · split <;> omega
theorem dH_le {l : Wd} {i : Nat} : dH l i ≤ 3 := by unfold dH; split <;> omega
theorem dV3_le {sk : Nat → Int32} {m : Wd} {T : Nat → Nat → Nat} {i j a : Nat} : dV3 sk m T i j a ≤ a := by
  unfold dV3
  split
  · exact Nat.min_le_left _ _
  · exact Nat.le_refl _
theorem dV4_le {l m : Wd} {T : Nat → Nat → Nat} {i j a : Nat} : dV4 l m T i j a ≤ a := by
  unfold dV4
  split
  · exact Nat.min_le_left _ _
  · exact Nat.le_refl _
theorem dV5_le {l m : Wd} {T : Nat → Nat → Nat} {i j a : Nat} : dV5 l m T i j a ≤ a := by
  unfold dV5
  split
  · exact Nat.min_le_left _ _
  · exact Nat.le_refl _
theorem dD_le (sk : Nat → Int32) (l m : Wd) : ∀ (n i j : Nat), i + j = n → dD sk l m i j ≤ 3 * n := by
  intro n
  induction n with
  | zero =>
    intro i j h
    rw [dD_eq]
    unfold dVM
    refine Nat.le_trans dV5_le (Nat.le_trans dV4_le (Nat.le_trans dV3_le ?_))
    unfold dV2 dV1
    rw [if_neg (by omega), if_pos (by omega)]
    omega
  | succ n ih =>
    intro i j h
    rw [dD_eq]
    unfold dVM
    refine Nat.le_trans dV5_le (Nat.le_trans dV4_le ?_)
    by_cases c : 0 < i
    · refine Nat.le_trans dV3_le ?_
      unfold dV2
      rw [if_pos c]
      have h1 := ih (i - 1) j (by omega)
      have h2 := dG_le (sk := sk) (l := l) (i := i)
      have h3 := Nat.min_le_right (dV1 1000 i j) (dD sk l m (i - 1) j + dG sk l i)
      omega
    · unfold dV3
      rw [if_pos (by omega)]
      have h1 := ih i (j - 1) (by omega)
      have h2 := dC_le (sk := sk) (l := m) (i := j)
      have h3 := Nat.min_le_right (dV2 sk l (dD sk l m) i j (dV1 1000 i j)) (dD sk l m i (j - 1) + dC sk m j)
      omega
/-- the start does not matter -/
theorem dVM_M {M : Nat} {sk : Nat → Int32} {l m : Wd} {i j : Nat} (hM : 1000 ≤ M) (hi : i + j ≤ 100) : dVM M sk l m (dD sk l m) i j = dD sk l m i j := by
  rw [dD_eq]
  unfold dVM
  have key : dV3 sk m (dD sk l m) i j (dV2 sk l (dD sk l m) i j (dV1 M i j)) = dV3 sk m (dD sk l m) i j (dV2 sk l (dD sk l m) i j (dV1 1000 i j)) := by
    unfold dV1
    by_cases c0 : i = 0 ∧ j = 0
    · rw [if_pos c0, if_pos c0]
    · rw [if_neg c0, if_neg c0]
      unfold dV2 dV3
      by_cases c : 0 < i
      · have h1 := dD_le sk l m _ (i - 1) j rfl
        have h2 := dG_le (sk := sk) (l := l) (i := i)
        have x1 : min M (dD sk l m (i - 1) j + dG sk l i) = dD sk l m (i - 1) j + dG sk l i := Nat.min_eq_right (by omega)
        have x2 : min 1000 (dD sk l m (i - 1) j + dG sk l i) = dD sk l m (i - 1) j + dG sk l i := Nat.min_eq_right (by omega)
        rw [if_pos c, if_pos c, x1, x2]
      · have h1 := dD_le sk l m _ i (j - 1) rfl
        have h2 := dC_le (sk := sk) (l := m) (i := j)
        rw [if_neg c, if_neg c, if_pos (by omega), if_pos (by omega), Nat.min_eq_right (by omega), Nat.min_eq_right (by omega)]
  rw [key]
def dist (sk : Nat → Int32) (l m : Wd) : Nat := dD sk l m l.length m.length
theorem dist_le {sk : Nat → Int32} {l m : Wd} (hl : gL l) (hm : gL m) : dist sk l m ≤ 48 := by
  have h1 := dD_le sk l m _ l.length m.length rfl
  have h2 := hl.2.1
  have h3 := hm.2.1
  unfold dist
  omega
theorem lt_r {l : Wd} {k : Nat} (h : gL l) (hk : k < l.length) : 1 ≤ lt l k ∧ lt l k ≤ 26 := by
  unfold lt
  rw [List.getD_eq_getElem?_getD, List.getElem?_eq_getElem hk]
  exact h.2.2 _ (List.getElem_mem hk)
/-! the class's Way -/
def pWy (o : gO) (G : hG) (w ta wa sa la : Nat) (l m : Wd) (sk : Nat → Int32) : Prop := hC G w = some (7, true) ∧ hR G w 0 = some ta ∧ hR G w 1 = some wa ∧ hR G w 2 = some sa ∧ hR G w 3 = some la ∧ pW o G ta l ∧ pW o G wa m ∧ (hC G sa = some (100, true) ∧ hN G sa = 26 ∧ ∀ k, k < 26 → hI G sa k = sk k) ∧ hC G la = some (100, true) ∧ hN G la = 81 ∧ sa ≠ la ∧ kS o G
section WAY
variable {o : gO} {G : hG} {w ta wa sa la i j : Nat} {l m : Wd} {sk : Nat → Int32}
theorem s_chr {Q : hG → Int32 → Prop} {a k : Nat} {l : Wd} (h : pW o G a l) (hk : k < l.length) (hQ : Q G (nI (97 + (lt l k - 1)))) : wX5_charAt Q a (nI k) G := by
  refine s_charAt h hk ?_
  have := lt_r h.2.2.2.2 hk
  rw [show 96 + l.getD k 0 = 97 + (lt l k - 1) by show 96 + lt l k = _; omega]
  exact hQ
theorem chr_eq {a b : Nat} (ha : 1 ≤ a ∧ a ≤ 26) (hb : 1 ≤ b ∧ b ≤ 26) : nI (97 + (a - 1)) = nI (97 + (b - 1)) ↔ a = b := by
  rw [nI_eq (by omega) (by omega)]
  omega
theorem s_sticks {Q : hG → Int32 → Prop} {d : Nat} {how : Int32} (h : pWy o G w ta wa sa la l m sk) (hd : d < 26) (hQ : Q G (if sk d = how then 1 else 0)) : wX7_sticks Q w (nI (97 + d)) how G := by
  obtain ⟨c, r0, r1, r2, r3, pt, pw, ⟨s1, s2, s3⟩, l1, l2, ne, hk⟩ := h
  unfold wX7_sticks wX7_sticks_b18
  rw [show (97 : Int32) = nI 97 from rfl, nI_sub (by omega), show 97 + d - 97 = d by omega, nI_clamp (by omega)]
  refine ⟨hclt c, hlet_i ⟨sa, r2, hclt s1, by rw [s2]; exact vp_in_nI hd (by decide), ?_⟩⟩
  rw [s3 d hd]
  refine br_c (fun e => ⟨hft1, ?_⟩) (fun e => ⟨hft0, ?_⟩)
  · rw [if_pos e] at hQ
    exact hQ
  · rw [if_neg e] at hQ
    exact hQ
theorem s_goes {Q : hG → Int32 → Prop} (h : pWy o G w ta wa sa la l m sk) (h1 : 1 ≤ i) (h2 : i ≤ l.length) (hQ : Q G (nI (dG sk l i))) : wX7_goes Q w (nI i) G := by
  have hh := h
  obtain ⟨c, r0, r1, r2, r3, pt, pw, s, l1, l2, ne, hk⟩ := h
  have hl8 := pt.2.2.2.2.2.1
  have d1 := lt_r pt.2.2.2.2 (show i - 1 < l.length by omega)
  unfold wX7_goes wX7_goes_b47 wX7_goes_b48 wX7_goes_b58
  unfold dG at hQ
  rw [show (1 : Int32) = nI 1 from rfl, nI_sub h1]
  refine ⟨hclt c, hlet_i ⟨ta, r0, hclt pt.1, s_chr pt (by omega) (br_c (fun e => ?_) (fun e => ?_))⟩⟩
  · have := (nI_leI (by omega) (by decide)).mp e
    rw [if_neg (by omega)] at hQ
    exact br_t rfl hQ
  · have h3 : 1 < i := by
      apply Nat.not_le.mp
      intro z
      exact e ((nI_leI (by omega) (by decide)).mpr z)
    have d2 := lt_r pt.2.2.2.2 (show i - 2 < l.length by omega)
    rw [show (2 : Int32) = nI 2 from rfl, nI_sub h3]
    refine ⟨hclt c, hlet_i ⟨ta, r0, hclt pt.1, s_chr pt (by omega) (br_c (fun e2 => ?_) (fun e2 => ?_))⟩⟩
    · have e3 := (chr_eq d2 d1).mp e2
      refine ⟨hclt c, s_sticks hh (by omega) ?_⟩
      by_cases e4 : sk (lt l (i - 1) - 1) = nI 2
      · rw [if_pos e4]
        rw [if_pos ⟨h3, e3, e4⟩] at hQ
        exact br_f (by decide) (br_f (by decide) hQ)
      · rw [if_neg e4]
        rw [if_neg (fun z => e4 z.2.2)] at hQ
        exact br_t rfl (br_t rfl hQ)
    · rw [if_neg (fun z => e2 ((chr_eq d2 d1).mpr z.2.1))] at hQ
      exact br_t rfl hQ
theorem s_comes {Q : hG → Int32 → Prop} (h : pWy o G w ta wa sa la l m sk) (h1 : 1 ≤ j) (h2 : j ≤ m.length) (hQ : Q G (nI (dC sk m j))) : wX7_comes Q w (nI j) G := by
  have hh := h
  obtain ⟨c, r0, r1, r2, r3, pt, pw, s, l1, l2, ne, hk⟩ := h
  have hl8 := pw.2.2.2.2.2.1
  have d1 := lt_r pw.2.2.2.2 (show j - 1 < m.length by omega)
  unfold wX7_comes wX7_comes_b25
  unfold dC at hQ
  rw [show nI j - (1 : Int32) = nI (j - 1) from nI_sub (b := 1) h1]
  refine ⟨hclt c, hlet_i ⟨wa, r1, hclt pw.1, s_chr pw (by omega) ⟨hclt c, s_sticks hh (by omega) ?_⟩⟩⟩
  by_cases e4 : sk (lt m (j - 1) - 1) = 1
  · rw [if_pos e4] at hQ ⊢
    exact br_f (by decide) hQ
  · rw [if_neg e4] at hQ ⊢
    exact br_t rfl hQ
theorem s_becomes {Q : hG → Int32 → Prop} (h : pWy o G w ta wa sa la l m sk) (h1 : 1 ≤ i) (h2 : i ≤ l.length) (h3 : 1 ≤ j) (h4 : j ≤ m.length) (hQ : Q G (nI (dB l m i j))) : wX7_becomes Q w (nI i) (nI j) G := by
  obtain ⟨c, r0, r1, r2, r3, pt, pw, s, l1, l2, ne, hk⟩ := h
  have d1 := lt_r pt.2.2.2.2 (show i - 1 < l.length by omega)
  have d2 := lt_r pw.2.2.2.2 (show j - 1 < m.length by omega)
  unfold wX7_becomes wX7_becomes_b51
  unfold dB at hQ
  rw [show nI i - (1 : Int32) = nI (i - 1) from nI_sub (b := 1) h1, show nI j - (1 : Int32) = nI (j - 1) from nI_sub (b := 1) h3]
  refine ⟨hclt c, hlet_i ⟨ta, r0, hclt pt.1, s_chr pt (by omega) ⟨hclt c, hlet_i ⟨wa, r1, hclt pw.1, s_chr pw (by omega) (br_c (fun e => ?_) (fun e => ?_))⟩⟩⟩⟩
  · rw [if_pos ((chr_eq d1 d2).mp e)] at hQ
    exact hQ
  · rw [if_neg (fun z => e ((chr_eq d1 d2).mpr z))] at hQ
    refine s_areBeside (by omega) (by omega) hk ?_
    cases e4 : bes (lt l (i - 1) - 1) (lt m (j - 1) - 1) with
    | true =>
      rw [e4, if_pos rfl] at hQ
      rw [if_pos rfl]
      exact br_f (by decide) hQ
    | false =>
      rw [e4, if_neg (by decide)] at hQ
      rw [if_neg (by decide)]
      exact br_t rfl hQ
theorem s_changes {Q : hG → Int32 → Prop} (h : pWy o G w ta wa sa la l m sk) (h2 : i ≤ l.length) (h4 : j ≤ m.length) (hQ : Q G (if dS l m i j then 1 else 0)) : wX7_changesPlaces Q w (nI i) (nI j) G := by
  obtain ⟨c, r0, r1, r2, r3, pt, pw, s, l1, l2, ne, hk⟩ := h
  have hl8 := pt.2.2.2.2.2.1
  have hm8 := pw.2.2.2.2.2.1
  unfold wX7_changesPlaces wX7_changesPlaces_b68 wX7_changesPlaces_b69
  unfold dS at hQ
  refine br_c (fun e => ⟨hft0, ?_⟩) (fun e => br_c (fun e2 => ⟨hft0, ?_⟩) (fun e2 => ?_))
  · rw [decide_eq_false (show ¬ 1 < i by have := (nI_leI (b := 1) (by omega) (by decide)).mp e; omega), Bool.false_and] at hQ
    exact hQ
  · rw [decide_eq_false (show ¬ 1 < j by have := (nI_leI (b := 1) (by omega) (by decide)).mp e2; omega), Bool.false_and, Bool.and_false] at hQ
    exact hQ
  · have i1 : 1 < i := by
      apply Nat.not_le.mp
      intro z
      exact e ((nI_leI (b := 1) (by omega) (by decide)).mpr z)
    have j1 : 1 < j := by
      apply Nat.not_le.mp
      intro z
      exact e2 ((nI_leI (b := 1) (by omega) (by decide)).mpr z)
    have a1 := lt_r pt.2.2.2.2 (show i - 1 < l.length by omega)
    have a2 := lt_r pt.2.2.2.2 (show i - 2 < l.length by omega)
    have b1 := lt_r pw.2.2.2.2 (show j - 1 < m.length by omega)
    have b2 := lt_r pw.2.2.2.2 (show j - 2 < m.length by omega)
    rw [decide_eq_true i1, decide_eq_true j1, Bool.true_and, Bool.true_and] at hQ
    rw [show nI i - (1 : Int32) = nI (i - 1) from nI_sub (b := 1) (by omega), show nI j - (1 : Int32) = nI (j - 1) from nI_sub (b := 1) (by omega), show nI i - (2 : Int32) = nI (i - 2) from nI_sub (b := 2) (by omega), show nI j - (2 : Int32) = nI (j - 2) from nI_sub (b := 2) (by omega)]
    refine ⟨hclt c, hlet_i ⟨ta, r0, hclt pt.1, s_chr pt (by omega) ⟨hclt c, hlet_i ⟨wa, r1, hclt pw.1, s_chr pw (by omega) (br_c (fun e3 => ?_) (fun e3 => ⟨hft0, ?_⟩))⟩⟩⟩⟩
    · rw [decide_eq_true ((chr_eq a1 b2).mp e3), Bool.true_and] at hQ
      refine ⟨hclt c, hlet_i ⟨ta, r0, hclt pt.1, s_chr pt (by omega) ⟨hclt c, hlet_i ⟨wa, r1, hclt pw.1, s_chr pw (by omega) (br_c (fun e4 => ⟨hft1, ?_⟩) (fun e4 => ⟨hft0, ?_⟩))⟩⟩⟩⟩
      · rw [decide_eq_true ((chr_eq a2 b1).mp e4)] at hQ
        exact hQ
      · rw [decide_eq_false (fun z => e4 ((chr_eq a2 b1).mpr z))] at hQ
        exact hQ
    · rw [decide_eq_false (fun z => e3 ((chr_eq a1 b2).mpr z)), Bool.false_and] at hQ
      exact hQ
theorem s_changing {Q : hG → Int32 → Prop} (h : pWy o G w ta wa sa la l m sk) (h1 : 1 < i) (h2 : i ≤ l.length) (hQ : Q G (nI (dH l i))) : wX7_changing Q w (nI i) G := by
  obtain ⟨c, r0, r1, r2, r3, pt, pw, s, l1, l2, ne, hk⟩ := h
  have a1 := lt_r pt.2.2.2.2 (show i - 1 < l.length by omega)
  have a2 := lt_r pt.2.2.2.2 (show i - 2 < l.length by omega)
  have hb : ∀ x, hnd x ≤ 1 := fun x => by unfold hnd; split <;> omega
  unfold wX7_changing wX7_changing_b38
  unfold dH at hQ
  rw [show nI i - (1 : Int32) = nI (i - 1) from nI_sub (b := 1) (by omega), show nI i - (2 : Int32) = nI (i - 2) from nI_sub (b := 2) (by omega)]
  refine ⟨hclt c, hlet_i ⟨ta, r0, hclt pt.1, s_chr pt (by omega) (s_handOf (by omega) hk ⟨hclt c, hlet_i ⟨ta, r0, hclt pt.1, s_chr pt (by omega) (s_handOf (by omega) hk ?_)⟩⟩)⟩⟩
  have e1 := hb (lt l (i - 1) - 1)
  have e2 := hb (lt l (i - 2) - 1)
  refine br_c (fun e => ?_) (fun e => ?_)
  · rw [if_pos ((nI_eq (by omega) (by omega)).mp e)] at hQ
    exact hQ
  · rw [if_neg (fun z => e (by rw [z]))] at hQ
    exact hQ
theorem hMn_nI {a b : Nat} (ha : a < 2 ^ 31) (hb : b < 2 ^ 31) : hMn (nI a) (nI b) = nI (min a b) := by
  unfold hMn
  by_cases c : b < a
  · rw [if_pos (nI_lt c ha), Nat.min_eq_right (by omega)]
  · rw [if_neg (nI_nlt (by omega) hb), Nat.min_eq_left (by omega)]
theorem s_leastOf {Q : hG → Int32 → Prop} (h : pWy o G w ta wa sa la l m sk) (h2 : i ≤ l.length) (h4 : j ≤ m.length) (hT : ∀ i' j', i' ≤ i → j' ≤ j → i' + j' < i + j → hI G la (9 * i' + j') = nI (dD sk l m i' j')) (hQ : Q G (nI (dD sk l m i j))) : wX7_leastOf Q w (nI i) (nI j) G := by
  have hh := h
  obtain ⟨c, r0, r1, r2, r3, pt, pw, s, l1, l2, ne, hk⟩ := h
  have hl8 := pt.2.2.2.2.2.1
  have hm8 := pw.2.2.2.2.2.1
  have hDb : ∀ i' j', i' ≤ i → j' ≤ j → dD sk l m i' j' ≤ 48 := fun i' j' a1 a2 => by
    have := dD_le sk l m _ i' j' rfl
    omega
  have at9 : ∀ i' j', i' ≤ 8 → j' ≤ 8 → (9 : Int32) * nI i' + nI j' = nI (9 * i' + j') := fun i' j' _ _ => by
    rw [show (9 : Int32) = nI 9 from rfl, pk_mul, nI_add]
  have rd : ∀ i' j', i' ≤ i → j' ≤ j → i' + j' < i + j → vp_in (nI (9 * i' + j')) (hN G la) ∧ hI G la (Int32.toNatClampNeg (nI (9 * i' + j'))) = nI (dD sk l m i' j') := fun i' j' a1 a2 a3 => by
    rw [l2, nI_clamp (by omega)]
    exact ⟨vp_in_nI (by omega) (by decide), hT i' j' a1 a2 a3⟩
  -- the last step
  have S5 : ∀ v, v < 2 ^ 31 → Q G (nI (dV5 l m (dD sk l m) i j v)) → wX7_leastOf_b103 Q w (nI i) (nI j) (nI v) G := by
    intro v hv hq
    unfold wX7_leastOf_b103 wX7_leastOf_b137
    refine ⟨hclt c, s_changes hh h2 h4 ?_⟩
    unfold dV5 at hq
    by_cases e : dS l m i j = true
    · have := dS_1 e
      rw [if_pos e] at hq ⊢
      refine br_f (by decide) ⟨hclt c, hlet_i ?_⟩
      rw [show nI i - (2 : Int32) = nI (i - 2) from nI_sub (b := 2) (by omega), show nI j - (2 : Int32) = nI (j - 2) from nI_sub (b := 2) (by omega)]
      unfold wX7_at
      rw [at9 _ _ (by omega) (by omega)]
      obtain ⟨v1, v2⟩ := rd (i - 2) (j - 2) (by omega) (by omega) (by omega)
      refine ⟨la, r3, hclt l1, v1, hclt c, s_changing hh (by omega) h2 (hlet_i ?_)⟩
      have b1 := hDb (i - 2) (j - 2) (by omega) (by omega)
      have b2 := dH_le (l := l) (i := i)
      rw [v2, nI_add, hMn_nI hv (by omega)]
      exact hq
    · rw [if_neg e] at hq ⊢
      exact br_t rfl hq
  have S4 : ∀ v, v < 2 ^ 31 → Q G (nI (dV5 l m (dD sk l m) i j (dV4 l m (dD sk l m) i j v))) → wX7_leastOf_b69 Q w (nI i) (nI j) (nI v) G := by
    intro v hv hq
    unfold wX7_leastOf_b69
    unfold dV4 at hq
    refine br_c (fun e => ?_) (fun e => br_c (fun e2 => ?_) (fun e2 => ?_))
    · have := (nI_leI (b := 0) (by omega) (by decide)).mp e
      rw [if_neg (by omega)] at hq
      exact S5 v hv hq
    · have := (nI_leI (b := 0) (by omega) (by decide)).mp e2
      rw [if_neg (by omega)] at hq
      exact S5 v hv hq
    · have i1 : 0 < i := by
        apply Nat.not_le.mp
        intro z
        exact e ((nI_leI (b := 0) (by omega) (by decide)).mpr z)
      have j1 : 0 < j := by
        apply Nat.not_le.mp
        intro z
        exact e2 ((nI_leI (b := 0) (by omega) (by decide)).mpr z)
      rw [if_pos ⟨i1, j1⟩] at hq
      refine ⟨hclt c, hlet_i ?_⟩
      rw [show nI i - (1 : Int32) = nI (i - 1) from nI_sub (b := 1) (by omega), show nI j - (1 : Int32) = nI (j - 1) from nI_sub (b := 1) (by omega)]
      unfold wX7_at
      rw [at9 _ _ (by omega) (by omega)]
      obtain ⟨v1, v2⟩ := rd (i - 1) (j - 1) (by omega) (by omega) (by omega)
      refine ⟨la, r3, hclt l1, v1, hclt c, s_becomes hh (by omega) h2 (by omega) h4 (hlet_i ?_)⟩
      have b1 := hDb (i - 1) (j - 1) (by omega) (by omega)
      have b2 := dB_le (l := l) (m := m) (i := i) (j := j)
      rw [v2, nI_add, hMn_nI hv (by omega)]
      exact S5 _ (by have := Nat.min_le_left v (dD sk l m (i - 1) (j - 1) + dB l m i j); omega) hq
  have S3 : ∀ v, v < 2 ^ 31 → Q G (nI (dV5 l m (dD sk l m) i j (dV4 l m (dD sk l m) i j (dV3 sk m (dD sk l m) i j v)))) → wX7_leastOf_b42 Q w (nI i) (nI j) (nI v) G := by
    intro v hv hq
    unfold wX7_leastOf_b42
    unfold dV3 at hq
    refine br_c (fun e2 => ?_) (fun e2 => ?_)
    · have := (nI_leI (b := 0) (by omega) (by decide)).mp e2
      rw [if_neg (by omega)] at hq
      exact S4 v hv hq
    · have j1 : 0 < j := by
        apply Nat.not_le.mp
        intro z
        exact e2 ((nI_leI (b := 0) (by omega) (by decide)).mpr z)
      rw [if_pos j1] at hq
      refine ⟨hclt c, hlet_i ?_⟩
      rw [show nI j - (1 : Int32) = nI (j - 1) from nI_sub (b := 1) (by omega)]
      unfold wX7_at
      rw [at9 _ _ (by omega) (by omega)]
      obtain ⟨v1, v2⟩ := rd i (j - 1) (by omega) (by omega) (by omega)
      refine ⟨la, r3, hclt l1, v1, hclt c, s_comes hh (by omega) h4 (hlet_i ?_)⟩
      have b1 := hDb i (j - 1) (by omega) (by omega)
      have b2 := dC_le (sk := sk) (l := m) (i := j)
      rw [v2, nI_add, hMn_nI hv (by omega)]
      exact S4 _ (by have := Nat.min_le_left v (dD sk l m i (j - 1) + dC sk m j); omega) hq
  have S2 : ∀ v, v < 2 ^ 31 → Q G (nI (dV5 l m (dD sk l m) i j (dV4 l m (dD sk l m) i j (dV3 sk m (dD sk l m) i j (dV2 sk l (dD sk l m) i j v))))) → wX7_leastOf_b14 Q w (nI i) (nI j) (nI v) G := by
    intro v hv hq
    unfold wX7_leastOf_b14
    unfold dV2 at hq
    refine br_c (fun e2 => ?_) (fun e2 => ?_)
    · have := (nI_leI (b := 0) (by omega) (by decide)).mp e2
      rw [if_neg (by omega)] at hq
      exact S3 v hv hq
    · have i1 : 0 < i := by
        apply Nat.not_le.mp
        intro z
        exact e2 ((nI_leI (b := 0) (by omega) (by decide)).mpr z)
      rw [if_pos i1] at hq
      refine ⟨hclt c, hlet_i ?_⟩
      rw [show nI i - (1 : Int32) = nI (i - 1) from nI_sub (b := 1) (by omega)]
      unfold wX7_at
      rw [at9 _ _ (by omega) (by omega)]
      obtain ⟨v1, v2⟩ := rd (i - 1) j (by omega) (by omega) (by omega)
      refine ⟨la, r3, hclt l1, v1, hclt c, s_goes hh (by omega) h2 (hlet_i ?_)⟩
      have b1 := hDb (i - 1) j (by omega) (by omega)
      have b2 := dG_le (sk := sk) (l := l) (i := i)
      rw [v2, nI_add, hMn_nI hv (by omega)]
      exact S3 _ (by have := Nat.min_le_left v (dD sk l m (i - 1) j + dG sk l i); omega) hq
  have hM := dVM_M (M := 2147483647) (sk := sk) (l := l) (m := m) (i := i) (j := j) (by decide) (by omega)
  unfold dVM dV1 at hM
  unfold wX7_leastOf wX7_leastOf_b12
  refine br_c (fun e => br_c (fun e2 => ?_) (fun e2 => ?_)) (fun e => ?_)
  · have z1 := (nI_e0 (by omega)).mp e
    have z2 := (nI_e0 (by omega)).mp e2
    rw [if_pos ⟨z1, z2⟩] at hM
    rw [← hM] at hQ
    exact S2 0 (by decide) hQ
  · have z2 : j ≠ 0 := fun z => e2 ((nI_e0 (by omega)).mpr z)
    rw [if_neg (fun z => z2 z.2)] at hM
    rw [← hM] at hQ
    exact S2 2147483647 (by decide) hQ
  · have z2 : i ≠ 0 := fun z => e ((nI_e0 (by omega)).mpr z)
    rw [if_neg (fun z => z2 z.1)] at hM
    rw [← hM] at hQ
    exact S2 2147483647 (by decide) hQ
end WAY
