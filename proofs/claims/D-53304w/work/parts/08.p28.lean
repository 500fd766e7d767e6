/-! ===== plain law 28: add, poll, peek of the queue ===== -/
set_option maxRecDepth 100000
section P28
variable {u : Nat × Nat} {o : gO} {G : hG} {q : Nat}
def pPr (o : gO) (G : hG) (u : Nat × Nat) (q r n : Nat) (f : Nat → It) (cm : Nat) : Prop := hC G q = some (19, true) ∧ o q = u ∧ hI G q 1 = nI n ∧ hR G q 0 = some r ∧ q ≠ r ∧ (hR G q 2 = some cm ∧ hC G cm = some (23, true)) ∧ pQh o G u r n f n ∧ hpH f n ∧ n ≤ 20 ∧ 0 < hN G r
theorem pPr.fr {M : Nat × Nat → Prop} {o' : gO} {G' : hG} {r n cm : Nat} {f : Nat → It} (h : pPr o G u q r n f cm) (hf : gFr M o G o' G') (hu : ¬ M u) (h0 : ¬ M (0, 0)) : pPr o' G' u q r n f cm := by
  obtain ⟨h1, h2, h3, h4, h5, ⟨h6, h7⟩, h8, h9, h10, h11⟩ := h
  have s := hf.S h1 h2 hu
  have s2 := hf.S h8.1 h8.2.1 hu
  exact ⟨hf.C h1, (hf.O h1).trans h2, s.I h3, s.R h4, h5, ⟨s.R h6, hf.C h7⟩, h8.fr hf hu h0, h9, h10, by rw [s2.1]; exact h11⟩
def inj9 (f : Nat → It) (n : Nat) : Prop := ∀ i j, i < n → j < n → f i = f j → i = j
def pPQ (o : gO) (G : hG) (u : Nat × Nat) (q : Nat) (T : List It) : Prop := ∃ r f cm, pPr o G u q r T.length f cm ∧ inj9 f T.length ∧ ∀ y, y ∈ T ↔ ∃ j, j < T.length ∧ f j = y
theorem pPQ.fr {M : Nat × Nat → Prop} {o' : gO} {G' : hG} {T : List It} (h : pPQ o G u q T) (hf : gFr M o G o' G') (hu : ¬ M u) (h0 : ¬ M (0, 0)) : pPQ o' G' u q T := by
  obtain ⟨r, f, cm, h1, h2⟩ := h
  exact ⟨r, f, cm, h1.fr hf hu h0, h2⟩
theorem pPQ.cl {T : List It} (h : pPQ o G u q T) : hC G q = some (19, true) := by
  obtain ⟨r, f, cm, h1, h2⟩ := h
  exact h1.1
theorem s_qempty {Q : hG → Int32 → Prop} {T : List It} (h : pPQ o G u q T) (hQ : Q G (if T = [] then 1 else 0)) : wJ2_isEmpty_c19 Q q G := by
  obtain ⟨r, f, cm, h1, h2⟩ := h
  have hl := h1.2.2.2.2.2.2.2.2.1
  unfold wJ2_isEmpty_c19
  refine ⟨hclt h1.1, ?_⟩
  unfold wJ35_size
  refine ⟨hclt h1.1, ?_⟩
  rw [h1.2.2.1]
  unfold wJ2_isEmpty_c19_b12
  refine br_c (fun e => ⟨hft1, ?_⟩) (fun e => ⟨hft0, ?_⟩)
  · have := (nI_e0 (by omega)).mp e
    rw [if_pos (List.length_eq_zero_iff.mp this)] at hQ
    exact hQ
  · rw [if_neg (fun z => e (by rw [z]; rfl))] at hQ
    exact hQ
theorem q_first {T : List It} {t : It} {f : Nat → It} (hs : (t :: T).Pairwise (fun a b => iLb a b = true)) (hh : hpH f (t :: T).length) (hm : ∀ y, y ∈ t :: T ↔ ∃ j, j < (t :: T).length ∧ f j = y) : f 0 = t := by
  have h0 : f 0 ∈ t :: T := (hm _).mpr ⟨0, by simp, rfl⟩
  rcases List.mem_cons.mp h0 with z | z
  · exact z
  · obtain ⟨j, j1, j2⟩ := (hm t).mp (List.mem_cons_self ..)
    have h1 := hh.min j j1
    rw [j2] at h1
    exact absurd ((List.pairwise_cons.mp hs).1 _ z) h1
theorem s_qpeek {Q : hG → Option Nat → Prop} {T : List It} {t : It} (h : pPQ o G u q (t :: T)) (hs : (t :: T).Pairwise (fun a b => iLb a b = true)) (hQ : ∀ s, pSg o G s t → Q G (some s)) : wJ35_peek Q q G := by
  obtain ⟨r, f, cm, ⟨h1, h2, h3, h4, h5, ⟨h6, h7⟩, ⟨g1, g2, g3, g4, g5⟩, h9, h10, h11⟩, hi, hm⟩ := h
  have e := q_first hs h9 hm
  obtain ⟨s, a1, a2⟩ := g5 0 (by simp) (by simp)
  unfold wJ35_peek
  have hl : 0 < hN G r := by
    rw [List.length_cons] at g3
    omega
  refine ⟨hclt h1, hlet_i ⟨r, h4, hclt g1, vp_in_nI (n := 0) hl (by omega), hlet_i ?_⟩⟩
  rw [show Int32.toNatClampNeg (0 : Int32) = 0 from rfl, a1]
  rw [e] at a2
  exact hQ s a2
theorem s_qpoll {Q : hG → Option Nat → Prop} {T : List It} {t : It} (hu : u ≠ (0, 0)) (h : pPQ o G u q (t :: T)) (hs : (t :: T).Pairwise (fun a b => iLb a b = true)) (hQ : ∀ s G', pSg o G' s t → pPQ o G' u q T → gFr (gOnly u) o G o G' → Q G' (some s)) : wJ35_poll Q q G := by
  obtain ⟨r, f, cm, ⟨h1, h2, h3, h4, h5, ⟨h6, h7⟩, ⟨g1, g2, g3, g4, g5⟩, h9, h10, h11⟩, hi, hm⟩ := h
  have e := q_first hs h9 hm
  have h0 : ¬ gOnly u (0, 0) := fun z => hu z.symm
  rw [List.length_cons] at h3 g3 g5 h9 h10 hi hm
  obtain ⟨s, a1, a2⟩ := g5 0 (by omega) (by omega)
  obtain ⟨s2, b1, b2⟩ := g5 T.length (by omega) (by omega)
  have nd : t ∉ T := fun z => iLb_irr _ ((List.pairwise_cons.mp hs).1 _ z)
  unfold wJ35_poll
  refine ⟨hclt h1, hlet_i ⟨r, h4, hclt g1, vp_in_nI (n := 0) (by omega) (by omega), hlet_i ?_⟩⟩
  rw [show Int32.toNatClampNeg (0 : Int32) = 0 from rfl, a1]
  refine cm_some ⟨hclt h1, h1, hlet_e fun G2 e2 => ?_⟩
  have c2 : hC G2 = hC G := by rw [e2]; rfl
  have n2 : hN G2 = hN G := by rw [e2]; rfl
  have r2 : hR G2 = hR G := by rw [e2]; rfl
  have i2 : hI G2 q 1 = nI (T.length + 1) := by rw [e2, hI_sI, if_neg (fun z => by cases z.2)]; exact h3
  have f2 : gFr (gOnly u) o G o G2 := by rw [e2]; exact gFr.rf.sI (Or.inr h2)
  rw [i2, show (1 : Int32) = nI 1 from rfl, nI_sub (by omega), show T.length + 1 - 1 = T.length by omega]
  refine ⟨hclt (by rw [c2]; exact h1), by rw [c2]; exact h1, hlet_e fun G3 e3 => ?_⟩
  have c3 : hC G3 = hC G := by rw [e3]; exact c2
  have n3 : hN G3 = hN G := by rw [e3]; exact n2
  have r3 : hR G3 = hR G := by rw [e3]; exact r2
  have i3 : hI G3 q 1 = nI T.length := by rw [e3, hI_sI, if_pos ⟨rfl, rfl⟩]
  have f3 : gFr (gOnly u) o G o G3 := by rw [e3]; exact f2.sI (Or.inr h2)
  refine ⟨hclt (by rw [c3]; exact g1), by rw [n3]; exact vp_in_nI (by omega) (by omega), hlet_i ⟨by rw [c3]; exact g1, by rw [n3]; exact vp_in_nI (by omega) (by omega), ?_, ?_⟩⟩
  · intro y hy
    cases hy
  rw [nI_clamp (by omega), r3, b1]
  refine hlet_e fun G4 e4 => ?_
  have c4 : hC G4 = hC G := by rw [e4]; exact c3
  have n4 : hN G4 = hN G := by rw [e4]; exact n3
  have i4 : hI G4 q 1 = nI T.length := by rw [e4]; exact i3
  have f4 : gFr (gOnly u) o G o G4 := by rw [e4]; exact f3.sR (Or.inr g2)
  have r4 : ∀ b j, ¬ (b = r ∧ j = T.length) → hR G4 b j = hR G b j := fun b j z => by rw [e4, hR_sR, if_neg z, r3]
  obtain ⟨g, hg⟩ : ∃ g : Nat → It, g = fun k => if k = 0 then f T.length else f k := ⟨_, rfl⟩
  have gj : ∀ j, 0 < j → g j = f j := fun j z => by rw [hg]; exact if_neg (by omega)
  have g0 : g 0 = f T.length := by rw [hg]; exact if_pos rfl
  have gin : inj9 g T.length := by
    intro i j x1 x2 x3
    by_cases i0 : i = 0
    · by_cases j0 : j = 0
      · omega
      · rw [i0, g0, gj j (by omega)] at x3
        have := hi _ _ (by omega) (by omega) x3
        omega
    · by_cases j0 : j = 0
      · rw [j0, g0, gj i (by omega)] at x3
        have := hi _ _ (by omega) (by omega) x3
        omega
      · rw [gj i (by omega), gj j (by omega)] at x3
        exact hi _ _ (by omega) (by omega) x3
  have gme : ∀ y, y ∈ T ↔ ∃ j, j < T.length ∧ g j = y := by
    intro y
    constructor
    · intro hy
      obtain ⟨j, j1, j2⟩ := (hm y).mp (List.mem_cons_of_mem _ hy)
      have j0 : j ≠ 0 := fun z => nd (by rw [z, e] at j2; rw [j2]; exact hy)
      by_cases jT : j = T.length
      · exact ⟨0, by omega, by rw [g0, ← jT]; exact j2⟩
      · exact ⟨j, by omega, by rw [gj j (by omega)]; exact j2⟩
    · rintro ⟨j, j1, j2⟩
      have hne : ∀ i, 0 < i → i < T.length + 1 → f i ∈ T := by
        intro i x1 x2
        rcases List.mem_cons.mp ((hm (f i)).mpr ⟨i, x2, rfl⟩) with z | z
        · rw [← e] at z
          have := hi _ _ x2 (by omega) z
          omega
        · exact z
      rw [← j2]
      by_cases j0 : j = 0
      · rw [j0, g0]
        exact hne _ (by omega) (by omega)
      · rw [gj j (by omega)]
        exact hne _ (by omega) (by omega)
  have qh : pQh o G4 u r T.length g 0 := ⟨by rw [c4]; exact g1, g2, by rw [n4]; omega, by rw [n4]; exact g4, fun j x1 x2 => by
    obtain ⟨y, y1, y2⟩ := g5 j (by omega) (by omega)
    exact ⟨y, by rw [r4 r j (fun z => by omega)]; exact y1, by rw [gj j (by omega)]; exact y2.fr f4 h0⟩⟩
  have fin : ∀ G' f', pQh o G' u r T.length f' T.length → hpH f' T.length → eqS T.length g f' → gFr (gOnly u) o G4 o G' → eqRr G4 G' r → Q G' (some s) := by
    intro G' f' x1 x2 x3 x4 ⟨x5, x6, x7⟩
    refine hQ s G' (by rw [e] at a2; exact (a2.fr f4 h0).fr x4 h0) ⟨r, f', cm, ⟨(f4.tr x4).C h1, h2, by rw [x5]; exact i4, ?_, h5, ⟨?_, (f4.tr x4).C h7⟩, x1, x2, by omega, by rw [x7, n4]; exact h11⟩, x3.2 gin, fun y => (gme y).trans (x3.1 y).symm⟩ (f4.tr x4)
    · rw [x6 q 0 h5, r4 q 0 (fun z => h5 z.1)]
      exact h4
    · rw [x6 q 2 h5, r4 q 2 (fun z => h5 z.1)]
      exact h6
  by_cases eT : T.length = 0
  · refine br_t (by rw [eT]; decide) ?_
    unfold wJ35_poll_b79
    exact fin G4 g ⟨qh.1, qh.2.1, qh.2.2.1, qh.2.2.2.1, fun j x1 _ => by omega⟩ (fun j x1 x2 => by omega) eqS.rf gFr.rf ⟨rfl, fun _ _ _ => rfl, rfl⟩
  · refine br_f (nI_nle (by omega) (by omega)) ⟨hclt (by rw [c4]; exact h1), ?_⟩
    rw [r4 q 2 (fun z => h5 z.1), h6]
    refine hlet_i (cm_some ?_)
    unfold wJ35_siftDownUsingComparator
    rw [pk_ushrN (k := 1) (by omega) _ (by decide)]
    refine hlet_i ?_
    refine s_qDn hu T.length 0 G4 g (by omega) qh (by omega) (by rw [g0]; exact b2.fr f4 h0) (f4.C h7) ⟨fun j x1 x2 x3 => ?_, fun z => absurd z (by omega)⟩ ?_
    · rw [gj j x1, gj _ (by omega)]
      exact h9 j x1 (by omega)
    · exact fin
theorem s_qgrow {Q : hG → Prop} {r n cm : Nat} {f : Nat → It} (h : pPr o G u q r n f cm) (hn : n = hN G r) (hu : u ≠ (0, 0)) (hQ : ∀ o' G' r', pPr o' G' u q r' n f cm → n < hN G' r' → gFr (gOnly u) o G o' G' → hI G' q = hI G q → Q G') : wJ35_grow Q q (nI (n + 1)) G := by
  obtain ⟨h1, h2, h3, h4, h5, ⟨h6, h7⟩, ⟨g1, g2, g3, g4, g5⟩, h9, h10, h11⟩ := h
  have h0 : ¬ gOnly u (0, 0) := fun z => hu z.symm
  unfold wJ35_grow
  refine ⟨hclt h1, hlet_i ⟨r, h4, hclt g1, br_f ?_ ?_⟩⟩
  · exact fun z => by
      have := (nI_leI (a := 64) (b := hN G r) (by omega) (by omega)).mp z
      omega
  unfold wJ35_grow_b25
  rw [← hn, nI_sub (by omega), show n + 1 - n = 1 by omega, show nI n + (2 : Int32) = nI (n + 2) from nI_add _ _]
  refine s_newLen (by omega) (by omega) (by omega) (by omega) ⟨hclt h1, hlet_i ⟨r, h4, ?_⟩⟩
  refine s_copyOf g1 (by omega) (by omega) (fun i hi y hy => ?_) (fun p hp => ?_)
  · obtain ⟨s, a1, a2⟩ := g5 i (by omega) (by omega)
    rw [a1] at hy
    cases hy
    exact a2.ob
  · have hqp : q ≠ p := fun z => by
      unfold hfr at hp
      rw [← z, h1] at hp
      cases hp
    have hrp : r ≠ p := fun z => by
      unfold hfr at hp
      rw [← z, g1] at hp
      cases hp
    obtain ⟨m, hm⟩ : ∃ m, m = n + max 1 (n + 2) := ⟨_, rfl⟩
    rw [← hm, show min (hN G r) m = n by omega]
    have hf := (((gFr.rf (M := gOnly u) (o := o) (G := G)).nw (n := m) (ci := 103) u hp).cpR (a := p) (dp := 0) (sp := 0) (n := n) (f := hR G r) (Or.inl hp)).sR (a := q) (k := 0) (x := some p) (Or.inr h2)
    refine ⟨by rw [hC_cpR, hC_nw, if_neg hqp]; exact h1, hlet_i (hQ _ _ p ⟨hf.C h1, ?_, ?_, ?_, hqp, ⟨?_, hf.C h7⟩, ⟨?_, gU_s, ?_, ?_, fun j x1 x2 => ?_⟩, h9, h10, ?_⟩ ?_ hf ?_)⟩
    · rw [gU_n hqp]
      exact h2
    · rw [hI_sR, hI_cpR, hI_nw, if_neg hqp]
      exact h3
    · rw [hR_sR, if_pos ⟨rfl, rfl⟩]
    · rw [hR_sR, if_neg (fun z => by cases z.2), hR_cpR, if_neg hqp, hR_nw, if_neg hqp]
      exact h6
    · rw [hC_sR, hC_cpR, hC_nw, if_pos rfl]
    · rw [hN_sR, hN_cpR, hN_nw, if_pos rfl]
      omega
    · rw [hN_sR, hN_cpR, hN_nw, if_pos rfl]
      omega
    · obtain ⟨s, a1, a2⟩ := g5 j x1 x2
      refine ⟨s, ?_, a2.fr hf h0⟩
      rw [hR_sR, if_neg (fun z => hqp z.1.symm), hR_cpR, if_pos rfl, pk_cpy_in (Nat.zero_le _) (by omega), show 0 + (j - 0) = j by omega]
      exact a1
    · rw [hN_sR, hN_cpR, hN_nw, if_pos rfl]
      omega
    · rw [hN_sR, hN_cpR, hN_nw, if_pos rfl]
      omega
    · rw [hI_sR, hI_cpR]
      funext j
      rw [hI_nw, if_neg hqp]
theorem s_qoffer {Q : hG → Int32 → Prop} {r s n cm : Nat} {e : It} {T : List It} {f : Nat → It} (hu : u ≠ (0, 0)) (hn : n = T.length) (h : pPr o G u q r n f cm) (hr : n < hN G r) (hin : inj9 f n) (hm : ∀ y, y ∈ T ↔ ∃ j, j < n ∧ f j = y) (he : pSg o G s e) (hne : e ∉ T) (hn20 : n < 20) (hQ : ∀ G', (∀ T' : List It, T'.length = n + 1 → (∀ y, y ∈ T' ↔ y = e ∨ y ∈ T) → pPQ o G' u q T') → gFr (gOnly u) o G o G' → Q G' 1) : wJ35_offer_b43 Q q s (nI n) G := by
  obtain ⟨h1, h2, h3, h4, h5, ⟨h6, h7⟩, ⟨g1, g2, g3, g4, g5⟩, h9, h10, h11⟩ := h
  obtain ⟨g, hg⟩ : ∃ g : Nat → It, g = fun k => if k = n then e else f k := ⟨_, rfl⟩
  have gj : ∀ j, j ≠ n → g j = f j := fun j z => by rw [hg]; exact if_neg z
  have gn : g n = e := by rw [hg]; exact if_pos rfl
  have gin : inj9 g (n + 1) := by
    intro i j x1 x2 x3
    by_cases i0 : i = n
    · by_cases j0 : j = n
      · omega
      · rw [i0, gn, gj j j0] at x3
        exact absurd ((hm e).mpr ⟨j, by omega, x3.symm⟩) hne
    · by_cases j0 : j = n
      · rw [j0, gn, gj i i0] at x3
        exact absurd ((hm e).mpr ⟨i, by omega, x3⟩) hne
      · rw [gj i i0, gj j j0] at x3
        exact hin _ _ (by omega) (by omega) x3
  have gme : ∀ y, (y = e ∨ y ∈ T) ↔ ∃ j, j < n + 1 ∧ g j = y := by
    intro y
    constructor
    · rintro (z | z)
      · exact ⟨n, by omega, by rw [gn, z]⟩
      · obtain ⟨j, j1, j2⟩ := (hm y).mp z
        exact ⟨j, by omega, by rw [gj j (by omega)]; exact j2⟩
    · rintro ⟨j, j1, j2⟩
      by_cases j0 : j = n
      · rw [j0, gn] at j2
        exact Or.inl j2.symm
      · rw [gj j j0] at j2
        exact Or.inr ((hm y).mpr ⟨j, by omega, j2⟩)
  unfold wJ35_offer_b43
  refine ⟨hclt h1, ?_⟩
  unfold wJ35_siftUp
  refine ⟨hclt h1, ?_⟩
  rw [h6]
  refine hlet_i (cm_some ⟨hclt h1, hlet_i ⟨hclt h1, hlet_i ⟨r, h4, ?_⟩⟩⟩)
  unfold wJ35_siftUpUsingComparator
  refine s_qUp hu n G g ⟨g1, g2, by omega, g4, fun j x1 x2 => ?_⟩ (by omega) (by rw [gn]; exact he) h7 ⟨fun j x1 x2 x3 => ?_, fun _ c x1 x2 x3 => by omega⟩ ?_ (n := n + 1)
  · obtain ⟨y, y1, y2⟩ := g5 j (by omega) (by omega)
    exact ⟨y, y1, by rw [gj j x2]; exact y2⟩
  · rw [gj j x3, gj _ (by omega)]
    exact h9 j x1 (by omega)
  · intro G' f' x1 x2 x3 x4 ⟨x5, x6, x7⟩
    have s5 : gFr (gOnly u) o G o (hsI G' q 1 (nI (n + 1))) := x4.sI (Or.inr h2)
    refine ⟨x4.C h1, hlet_i ?_⟩
    rw [show nI n + (1 : Int32) = nI (n + 1) from nI_1 _]
    refine hQ _ (fun T' t1 t2 => ⟨r, f', cm, ⟨s5.C h1, h2, ?_, ?_, h5, ⟨?_, s5.C h7⟩, ?_, by rw [t1]; exact x2, by omega, ?_⟩, by rw [t1]; exact x3.2 gin, fun y => ?_⟩) s5
    · rw [hI_sI, if_pos ⟨rfl, rfl⟩, t1]
    · rw [hR_sI, x6 q 0 h5]
      exact h4
    · rw [hR_sI, x6 q 2 h5]
      exact h6
    · rw [t1]
      refine ⟨x1.1, x1.2.1, x1.2.2.1, x1.2.2.2.1, fun j j1 j2 => ?_⟩
      obtain ⟨y, y1, y2⟩ := x1.2.2.2.2 j j1 j2
      exact ⟨y, y1, y2.fr ((gFr.rf (M := gOnly u)).sI (Or.inr h2)) (fun z => hu z.symm)⟩
    · show 0 < hN G' r
      have := x1.2.2.1
      omega
    · rw [t1]
      exact (t2 y).trans ((gme y).trans (x3.1 y).symm)
theorem s_qadd {Q : hG → Int32 → Prop} {s : Nat} {e : It} {T : List It} (hu : u ≠ (0, 0)) (h : pPQ o G u q T) (he : pSg o G s e) (hne : e ∉ T) (hn20 : T.length < 20) (hQ : ∀ o' G', (∀ T' : List It, T'.length = T.length + 1 → (∀ y, y ∈ T' ↔ y = e ∨ y ∈ T) → pPQ o' G' u q T') → gFr (gOnly u) o G o' G' → Q G' 1) : wJ35_add Q q (some s) G := by
  obtain ⟨r, f, cm, h, hi, hm⟩ := h
  have h0 : ¬ gOnly u (0, 0) := fun z => hu z.symm
  unfold wJ35_add
  refine ⟨hclt h.1, ?_⟩
  unfold wJ35_offer
  refine cm_some ⟨hclt h.1, h.1, hlet_e fun G2 e2 => ?_⟩
  have f2 : gFr (gOnly u) o G o G2 := by rw [e2]; exact gFr.rf.sI (Or.inr h.2.1)
  have h' : pPr o G2 u q r T.length f cm := by
    obtain ⟨h1, h2, h3, h4, h5, ⟨h6, h7⟩, ⟨g1, g2, g3, g4, g5⟩, h9, h10, h11⟩ := h
    refine ⟨f2.C h1, h2, ?_, by rw [e2]; exact h4, h5, ⟨by rw [e2]; exact h6, f2.C h7⟩, ⟨f2.C g1, g2, by rw [e2]; exact g3, by rw [e2]; exact g4, fun j x1 x2 => ?_⟩, h9, h10, by rw [e2]; exact h11⟩
    · rw [e2, hI_sI, if_neg (fun z => by cases z.2)]
      exact h3
    · obtain ⟨y, y1, y2⟩ := g5 j x1 x2
      exact ⟨y, by rw [e2]; exact y1, y2.fr f2 h0⟩
  have he' := he.fr f2 h0
  have b4 : hN G2 r ≤ 42 := h'.2.2.2.2.2.2.1.2.2.2.1
  refine ⟨hclt h'.1, hclt h'.1, hlet_i ⟨r, h'.2.2.2.1, hclt h'.2.2.2.2.2.2.1.1, ?_⟩⟩
  rw [h'.2.2.1]
  refine br_c (fun e => ?_) (fun e => ⟨hclt h'.1, ?_⟩)
  · have := (nI_ltI (by omega) (by omega)).mp e
    exact s_qoffer hu rfl h' this hi hm he' hne hn20 fun G' a1 a2 => ⟨hft1, hQ _ _ a1 (f2.tr a2)⟩
  · have hN0 : T.length = hN G2 r := by
      have := h'.2.2.2.2.2.2.1.2.2.1
      have : ¬ T.length < hN G2 r := fun z => e ((nI_ltI (by omega) (by omega)).mpr z)
      omega
    rw [show nI T.length + (1 : Int32) = nI (T.length + 1) from nI_1 _]
    refine s_qgrow h' hN0 hu ?_
    · intro o' G' r' a1 a2 a3 a4
      exact s_qoffer hu rfl a1 a2 hi hm (he'.fr a3 h0) hne hn20 fun G'' b1 b2 => ⟨hft1, hQ _ _ b1 ((f2.tr a3).tr b2)⟩
end P28
