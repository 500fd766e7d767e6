/-! ===== plain law 5: meant pairs and kept lists ===== -/
set_option maxRecDepth 100000
abbrev Wd : Type := List Nat
abbrev Mt : Type := Wd × Wd × Nat
def pM (o : gO) (G : hG) (a : Nat) (e : Mt) : Prop := hC G a = some (5, true) ∧ o a = (0, 0) ∧ (∃ x, hR G a 0 = some x ∧ pW o G x e.1) ∧ (∃ x, hR G a 1 = some x ∧ pW o G x e.2.1) ∧ hI G a 2 = nI e.2.2
theorem pM.fr {M : Nat × Nat → Prop} {o o' : gO} {G G' : hG} {a : Nat} {e : Mt} (h : pM o G a e) (hf : gFr M o G o' G') (h0 : ¬ M (0, 0)) : pM o' G' a e := by
  obtain ⟨h1, h2, ⟨x, h3, h3'⟩, ⟨y, h4, h4'⟩, h5⟩ := h
  have s := hf.S h1 h2 h0
  exact ⟨hf.C h1, (hf.O h1).trans h2, ⟨x, s.R h3, h3'.fr hf h0⟩, ⟨y, s.R h4, h4'.fr hf h0⟩, s.I h5⟩
def pMs (o : gO) (G : hG) (L : List Nat) (V : List Mt) : Prop := L.length = V.length ∧ ∀ (k y : Nat) (e : Mt), L[k]? = some y → V[k]? = some e → pM o G y e
theorem pMs.fr {M : Nat × Nat → Prop} {o o' : gO} {G G' : hG} {L : List Nat} {V : List Mt} (h : pMs o G L V) (hf : gFr M o G o' G') (h0 : ¬ M (0, 0)) : pMs o' G' L V :=
  ⟨h.1, fun k y e h1 h2 => (h.2 k y e h1 h2).fr hf h0⟩
theorem pMs.snoc {o : gO} {G : hG} {L : List Nat} {V : List Mt} {y : Nat} {e : Mt} (h : pMs o G L V) (hy : pM o G y e) : pMs o G (L ++ [y]) (V ++ [e]) := by
  refine ⟨by rw [List.length_append, List.length_append, h.1]; rfl, fun k z f h1 h2 => ?_⟩
  by_cases c : k < L.length
  · rw [List.getElem?_append_left c] at h1
    rw [List.getElem?_append_left (by rw [← h.1]; exact c)] at h2
    exact h.2 k z f h1 h2
  · rw [List.getElem?_append_right (by omega)] at h1
    rw [List.getElem?_append_right (by rw [← h.1]; omega), ← h.1] at h2
    cases e9 : k - L.length with
    | zero =>
      rw [e9] at h1 h2
      cases h1
      cases h2
      exact hy
    | succ j =>
      rw [e9] at h1
      simp at h1
theorem pMs.set {o : gO} {G : hG} {L : List Nat} {V : List Mt} {i y : Nat} {e : Mt} (h : pMs o G L V) (hy : pM o G y e) : pMs o G (L.set i y) (V.set i e) := by
  refine ⟨by rw [List.length_set, List.length_set, h.1], fun k z f h1 h2 => ?_⟩
  rw [List.getElem?_set] at h1 h2
  by_cases c : i = k
  · rw [if_pos c] at h1 h2
    split at h1
    · split at h2
      · cases h1
        cases h2
        exact hy
      · cases h2
    · cases h1
  · rw [if_neg c] at h1 h2
    exact h.2 k z f h1 h2
theorem pMs.erase {o : gO} {G : hG} {L : List Nat} {V : List Mt} {i : Nat} (h : pMs o G L V) : pMs o G (L.eraseIdx i) (V.eraseIdx i) := by
  refine ⟨by rw [List.length_eraseIdx, List.length_eraseIdx, h.1], fun k z f h1 h2 => ?_⟩
  rw [List.getElem?_eraseIdx] at h1 h2
  by_cases c : k < i
  · rw [if_pos c] at h1 h2
    exact h.2 k z f h1 h2
  · rw [if_neg c] at h1 h2
    exact h.2 _ z f h1 h2
/-- Kept a: most so many, list b (of owner u) of the cells L, what they mean V -/
def pKr (o : gO) (G : hG) (u : Nat × Nat) (a most b : Nat) (L : List Nat) (V : List Mt) : Prop := hC G a = some (3, true) ∧ o a = (0, 0) ∧ hR G a 0 = some b ∧ hI G a 1 = nI most ∧ pAL o G u b L ∧ pMs o G L V ∧ most ≤ 24 ∧ V.length ≤ most
def pKt (o : gO) (G : hG) (u : Nat × Nat) (a most : Nat) (V : List Mt) : Prop := ∃ b L, pKr o G u a most b L V
theorem pKr.fr {M : Nat × Nat → Prop} {o o' : gO} {G G' : hG} {u : Nat × Nat} {a most b : Nat} {L : List Nat} {V : List Mt} (h : pKr o G u a most b L V) (hf : gFr M o G o' G') (hu : ¬ M u) (h0 : ¬ M (0, 0)) : pKr o' G' u a most b L V := by
  obtain ⟨h1, h2, h3, h4, h5, h6, h7, h8⟩ := h
  have s := hf.S h1 h2 h0
  exact ⟨hf.C h1, (hf.O h1).trans h2, s.R h3, s.I h4, h5.fr hf hu h0, h6.fr hf h0, h7, h8⟩
theorem pKt.fr {M : Nat × Nat → Prop} {o o' : gO} {G G' : hG} {u : Nat × Nat} {a most : Nat} {V : List Mt} (h : pKt o G u a most V) (hf : gFr M o G o' G') (hu : ¬ M u) (h0 : ¬ M (0, 0)) : pKt o' G' u a most V := by
  obtain ⟨b, L, h⟩ := h
  exact ⟨b, L, h.fr hf hu h0⟩
theorem pKr.cl {o : gO} {G : hG} {u : Nat × Nat} {a most b : Nat} {L : List Nat} {V : List Mt} (h : pKr o G u a most b L V) : hC G b = some (18, true) := by
  obtain ⟨r, h⟩ := h.2.2.2.2.1
  exact h.1
/-- the list has another content now -/
theorem pKr.put {o o' : gO} {G G' : hG} {u : Nat × Nat} {a most b : Nat} {L L' : List Nat} {V V' : List Mt} (h : pKr o G u a most b L V) (hu : u ≠ (0, 0)) (hf : gFr (gOnly u) o G o' G') (h5 : pAL o' G' u b L') (h6 : pMs o' G' L' V') (h8 : V'.length ≤ most) : pKr o' G' u a most b L' V' := by
  have h0 : ¬ gOnly u (0, 0) := fun z => hu z.symm
  obtain ⟨h1, h2, h3, h4, -, -, h7, -⟩ := h
  have s := hf.S h1 h2 h0
  exact ⟨hf.C h1, (hf.O h1).trans h2, s.R h3, s.I h4, h5, h6, h7, h8⟩
theorem s_ksize {Q : hG → Int32 → Prop} {o : gO} {G : hG} {u : Nat × Nat} {a most : Nat} {V : List Mt} (h : pKt o G u a most V) (hQ : Q G (nI V.length)) : wX3_size Q a G := by
  obtain ⟨b, L, h⟩ := h
  have hb := h.cl
  obtain ⟨h1, h2, h3, h4, h5, h6, h7, h8⟩ := h
  unfold wX3_size
  refine ⟨hclt h1, hlet_i ⟨b, h3, hclt hb, s_alsize h5 ?_⟩⟩
  rw [h6.1]
  exact hQ
theorem s_kget {Q : hG → Option Nat → Prop} {o : gO} {G : hG} {u : Nat × Nat} {a most k : Nat} {V : List Mt} (h : pKt o G u a most V) (hk : k < V.length) (hQ : ∀ y, pM o G y V[k] → Q G (some y)) : wX3_get Q a (nI k) G := by
  obtain ⟨b, L, h⟩ := h
  have hb := h.cl
  obtain ⟨h1, h2, h3, h4, h5, h6, h7, h8⟩ := h
  have hk' : k < L.length := by rw [h6.1]; exact hk
  unfold wX3_get
  exact ⟨hclt h1, hlet_i ⟨b, h3, hclt hb, s_alget h5 hk' (hQ _ (h6.2 k _ _ (List.getElem?_eq_getElem hk') (List.getElem?_eq_getElem hk)))⟩⟩
theorem s_isFull {Q : hG → Int32 → Prop} {o : gO} {G : hG} {u : Nat × Nat} {a most : Nat} {V : List Mt} (h : pKt o G u a most V) (h1' : V.length = most → Q G 1) (h0' : V.length ≠ most → Q G 0) : wX3_isFull Q a G := by
  obtain ⟨b, L, h⟩ := h
  have hb := h.cl
  obtain ⟨h1, h2, h3, h4, h5, h6, h7, h8⟩ := h
  unfold wX3_isFull
  refine ⟨hclt h1, hlet_i ⟨b, h3, hclt hb, s_alsize h5 ⟨hclt h1, ?_⟩⟩⟩
  rw [h4, h6.1]
  exact ⟨fun e => ⟨hft1, h1' ((nI_eq (by omega) (by omega)).mp e)⟩, fun e => ⟨hft0, h0' fun z => e (by rw [z])⟩⟩
theorem hob5 {o : gO} {G : hG} {y : Nat} {e : Mt} (h : pM o G y e) : hOb G hNob y := ⟨5, by decide, hclt h.1⟩
theorem s_kadd {Q : hG → Prop} {o : gO} {G : hG} {u : Nat × Nat} {a most y : Nat} {V : List Mt} {e : Mt} (h : pKt o G u a most V) (hu : u ≠ (0, 0)) (hm : 0 < most) (hy : pM o G y e) (hQ : ∀ o' G', pKt o' G' u a most ((if V.length = most then V.eraseIdx 0 else V) ++ [e]) → gFr (gOnly u) o G o' G' → Q G') : wX3_add Q a (some y) G := by
  have hh := h
  obtain ⟨b, L, h⟩ := h
  have hb := h.cl
  have h0 : ¬ gOnly u (0, 0) := fun z => hu z.symm
  have fin : ∀ (G4 : hG) (L4 : List Nat) (V4 : List Mt), pKr o G4 u a most b L4 V4 → V4.length < most → pM o G4 y e → gFr (gOnly u) o G o G4 → (if V.length = most then V.eraseIdx 0 else V) = V4 → wX3_add_b16 Q a (some y) G4 := by
    intro G4 L4 V4 g hl gy gf hv
    have gb := g.cl
    have g7 := g.2.2.2.2.2.2.1
    have g6 := g.2.2.2.2.2.1
    unfold wX3_add_b16
    refine ⟨hclt g.1, hlet_i ⟨b, g.2.2.1, hclt gb, ?_⟩⟩
    refine s_aladd g.2.2.2.2.1 (by rw [g6.1]; omega) (hob5 gy) fun o' G' k1 k2 => ?_
    rw [hv] at hQ
    exact hQ o' G' ⟨b, L4 ++ [y], g.put hu k2 k1 ((g6.fr k2 h0).snoc (gy.fr k2 h0)) (by rw [List.length_append]; exact hl)⟩ (gf.tr k2)
  have h8 := h.2.2.2.2.2.2.2
  have h6 := h.2.2.2.2.2.1
  unfold wX3_add
  refine ⟨hclt h.1, s_isFull hh (fun e1 => ?_) (fun e1 => ?_)⟩
  · refine br_f (by decide) ⟨hclt h.1, hlet_i ⟨b, h.2.2.1, hclt hb, ?_⟩⟩
    have hL : 0 < L.length := by rw [h6.1]; omega
    rw [show (0 : Int32) = nI 0 from rfl]
    refine s_alremove h.2.2.2.2.1 hL fun G' k1 k2 => ?_
    have hV : (V.eraseIdx 0).length = V.length - 1 := List.length_eraseIdx_of_lt (by omega)
    exact fin G' _ (V.eraseIdx 0) (h.put hu k2 k1 (h6.fr k2 h0).erase (by omega)) (by omega) (hy.fr k2 h0) k2 (if_pos e1)
  · exact br_t rfl (fin G L V h (by omega) hy gFr.rf (if_neg e1))
/-- new Meant -/
theorem s_newM {P : Nat → hG → Prop} {o : gO} {G : hG} {x y : Nat} {e : Mt} (hx : pW o G x e.1) (hy : pW o G y e.2.1) (hQ : ∀ q o' G', hfr G q → pM o' G' q e → (∀ M, gFr M o G o' G') → P q G') : ∀ q, hfr G q → hlet (hnw G q 5 0) fun G4 => wX10_init (fun G8 => P q G8) q (some x) (some y) (nI e.2.2) G4 := by
  intro q hq
  refine hlet_i ?_
  unfold wX10_init
  have c : hC (hnw G q 5 0) q = some (5, true) := by rw [hC_nw, if_pos rfl]
  refine ⟨c, hlet_i ⟨c, hlet_i ⟨c, hlet_i ?_⟩⟩⟩
  have hf : ∀ M, gFr M o G (gU o q (0, 0)) (hsI (hsR (hsR (hnw G q 5 0) q 0 (some x)) q 1 (some y)) q 2 (nI e.2.2)) := fun M => (((gFr.rf.nw (0, 0) hq).sR (Or.inl hq)).sR (Or.inl hq)).sI (Or.inl hq)
  have h0 := hf (fun _ => False)
  refine hQ q _ _ hq ⟨c, gU_s, ⟨x, ?_, hx.fr h0 (fun z => z)⟩, ⟨y, ?_, hy.fr h0 (fun z => z)⟩, ?_⟩ hf
  · rw [hR_sI, hR_sR, if_neg (fun z => by have := z.2; omega), hR_sR, if_pos ⟨rfl, rfl⟩]
  · rw [hR_sI, hR_sR, if_pos ⟨rfl, rfl⟩]
  · rw [hI_sI, if_pos ⟨rfl, rfl⟩]
/-- the same with another number -/
theorem s_with {Q : hG → Option Nat → Prop} {o : gO} {G : hG} {m n : Nat} {e : Mt} (h : pM o G m e) (hQ : ∀ q o' G', hfr G q → pM o' G' q (e.1, e.2.1, n) → (∀ M, gFr M o G o' G') → Q G' (some q)) : wX10_with Q m (nI n) G := by
  obtain ⟨h1, h2, ⟨x, h3, h3'⟩, ⟨y, h4, h4'⟩, h5⟩ := h
  unfold wX10_with
  intro q hq
  have mq : m ≠ q := fun z => by
    rw [z, hq] at h1
    cases h1
  refine hlet_i ⟨hclt (by rw [hC_nw, if_neg mq]; exact h1), hlet_i ⟨hclt (by rw [hC_nw, if_neg mq]; exact h1), hlet_i ?_⟩⟩
  rw [hR_nw, if_neg mq, hR_nw, if_neg mq, h3, h4]
  exact s_newM (P := fun q G' => Q G' (some q)) (e := (e.1, e.2.1, n)) h3' h4' hQ q hq
theorem s_isFor {Q : hG → Int32 → Prop} {o : gO} {G : hG} {m t w : Nat} {e : Mt} {lt lw : Wd} (h : pM o G m e) (ht : pW o G t lt) (hw : pW o G w lw) (hQ : Q G (if e.1 = lt ∧ e.2.1 = lw then 1 else 0)) : wX10_isFor Q m (some t) (some w) G := by
  obtain ⟨h1, h2, ⟨x, h3, h3'⟩, ⟨y, h4, h4'⟩, h5⟩ := h
  unfold wX10_isFor
  refine ⟨hclt h1, hlet_i ⟨x, h3, hclt h3'.1, s_compareTo h3' ht fun z hz => br_c (fun c => ?_) (fun c => ?_)⟩⟩
  · have e1 := hz.1.mp c
    refine ⟨hclt h1, hlet_i ⟨y, h4, hclt h4'.1, s_compareTo h4' hw fun z2 hz2 => br_c (fun c2 => ?_) (fun c2 => ?_)⟩⟩
    · rw [if_pos ⟨e1, hz2.1.mp c2⟩] at hQ
      exact ⟨hft1, hQ⟩
    · rw [if_neg (fun q => c2 (hz2.1.mpr q.2))] at hQ
      exact ⟨hft0, hQ⟩
  · rw [if_neg (fun q => c (hz.1.mpr q.1))] at hQ
    exact ⟨hft0, hQ⟩
/-- the place of a pair -/
def plcF (t w : Wd) : List Mt → Nat → Option Nat
  | [], _ => none
  | e :: V, k => if e.1 = t ∧ e.2.1 = w then some k else plcF t w V (k + 1)
def plc (V : List Mt) (t w : Wd) : Option Nat := plcF t w V 0
def ix : Option Nat → Int32
  | none => -1
  | some k => nI k
theorem plcF_lt {t w : Wd} : ∀ {V : List Mt} {k j : Nat}, plcF t w V k = some j → k ≤ j ∧ j < k + V.length ∧ ∃ e, V[j - k]? = some e ∧ e.1 = t ∧ e.2.1 = w
  | [], k, j, h => by cases h
  | e :: V, k, j, h => by
    unfold plcF at h
    by_cases c : e.1 = t ∧ e.2.1 = w
    · rw [if_pos c] at h
      cases h
      refine ⟨Nat.le_refl _, by rw [List.length_cons]; omega, e, by simp, c⟩
    · rw [if_neg c] at h
      obtain ⟨h1, h2, f, h3, h4⟩ := plcF_lt h
      refine ⟨by omega, by rw [List.length_cons]; omega, f, ?_, h4⟩
      rw [show j - k = (j - (k + 1)) + 1 by omega, List.getElem?_cons_succ]
      exact h3
theorem plc_lt {V : List Mt} {t w : Wd} {j : Nat} (h : plc V t w = some j) : ∃ hj : j < V.length, V[j].1 = t ∧ V[j].2.1 = w := by
  obtain ⟨h1, h2, e, h3, h4⟩ := plcF_lt h
  have hj : j < V.length := by omega
  rw [Nat.sub_zero, List.getElem?_eq_getElem hj] at h3
  cases h3
  exact ⟨hj, h4⟩
theorem s_placeOf {Q : hG → Int32 → Prop} {o : gO} {G : hG} {u : Nat × Nat} {a most t w : Nat} {V : List Mt} {lt lw : Wd} (h : pKt o G u a most V) (ht : pW o G t lt) (hw : pW o G w lw) (hQ : Q G (ix (plc V lt lw))) : wX1_placeOf Q a (some t) (some w) G := by
  have hl : V.length ≤ 24 := by
    obtain ⟨b, L, h⟩ := h
    have := h.2.2.2.2.2.2
    omega
  have ha : hC G a = some (3, true) := by
    obtain ⟨b, L, h⟩ := h
    exact h.1
  have hend : ∀ k, k ≤ V.length → Q G (if k = V.length then -1 else nI k) → wX1_placeOf_b32 Q a (nI k) G := by
    intro k hk hq
    unfold wX1_placeOf_b32 wX1_placeOf_b45
    refine ⟨hclt ha, s_ksize h (br_c (fun c => ?_) (fun c => ?_))⟩
    · rw [if_pos ((nI_eq (by omega) (by omega)).mp c)] at hq
      exact hq
    · rw [if_neg (fun z => c (by rw [z]))] at hq
      exact hq
  have key : ∀ (d k : Nat), k + d = V.length → Q G (ix (plcF lt lw (V.drop k) k)) → ∃ n, wX1_placeOf_l2 Q n a (some t) (some w) (nI k) G := by
    intro d
    induction d with
    | zero =>
      intro k hk hq
      refine ⟨1, ?_⟩
      show wX1_placeOf_b2 Q _ _ _ _ _ _
      unfold wX1_placeOf_b2
      refine ⟨hclt ha, s_ksize h (br_t (nI_le (by omega) (by omega)) (hend k (by omega) ?_))⟩
      rw [if_pos (by omega)]
      rw [List.drop_eq_nil_of_le (by omega)] at hq
      exact hq
    | succ d ih =>
      intro k hk hq
      have k1 : k < V.length := by omega
      rw [List.drop_eq_getElem_cons k1] at hq
      unfold plcF at hq
      by_cases c : V[k].1 = lt ∧ V[k].2.1 = lw
      · rw [if_pos c] at hq
        refine ⟨1, ?_⟩
        show wX1_placeOf_b2 Q _ _ _ _ _ _
        unfold wX1_placeOf_b2
        refine ⟨hclt ha, s_ksize h (br_f (nI_ge k1 (by omega)) ⟨hclt ha, s_kget h k1 fun y hy => ⟨fun z e => ?_, y, rfl, hclt hy.1, s_isFor hy ht hw ?_⟩⟩)⟩
        · cases e
          exact hclt hy.1
        · rw [if_pos c]
          refine br_f (by decide) (hend k (by omega) ?_)
          rw [if_neg (by omega)]
          exact hq
      · rw [if_neg c] at hq
        obtain ⟨n, hn⟩ := ih (k + 1) (by omega) hq
        refine ⟨n + 1, ?_⟩
        show wX1_placeOf_b2 Q (wX1_placeOf_l2 Q n) _ _ _ _ _
        unfold wX1_placeOf_b2
        refine ⟨hclt ha, s_ksize h (br_f (nI_ge k1 (by omega)) ⟨hclt ha, s_kget h k1 fun y hy => ⟨fun z e => ?_, y, rfl, hclt hy.1, s_isFor hy ht hw ?_⟩⟩)⟩
        · cases e
          exact hclt hy.1
        · rw [if_neg c, show nI k + 1 = nI (k + 1) from nI_1 k]
          exact br_t rfl hn
  exact key V.length 0 (by omega) hQ
