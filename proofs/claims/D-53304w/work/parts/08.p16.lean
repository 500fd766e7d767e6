/-! ===== plain law 16: views and iterators of a TreeMap (three kinds written by gen16.py) ===== -/
set_option maxRecDepth 100000
def pVc (o : gO) (G : hG) (q t ci : Nat) : Prop := hC G q = some (ci, true) ∧ o q = (0, 0) ∧ hR G q 0 = some t
theorem pVc.fr {M : Nat × Nat → Prop} {o o' : gO} {G G' : hG} {q t ci : Nat} (h : pVc o G q t ci) (hf : gFr M o G o' G') (h0 : ¬ M (0, 0)) : pVc o' G' q t ci :=
  ⟨hf.C h.1, (hf.O h.1).trans h.2.1, (hf.S h.1 h.2.1 h0).R h.2.2⟩
def gNo : Nat × Nat → Prop := fun _ => False
section PIM
variable {o o' : gO} {G G' : hG} {u w : Nat × Nat} {t s it : Nat} {L : List Nat} {k : Nat → Wd} {v : Nat → Option Nat} {sub : Nat → List Nat} {root : Option Nat} {E E1 E2 : List En}
theorem pTM.vset (h : pTM o G u t s L k v sub root) (hu : u ≠ (0, 0)) {j q : Nat} (hj : (j = 6 ∧ pVc o G q t 16) ∨ (j = 7 ∧ pVc o G q t 14) ∨ (j = 1 ∧ pVc o G q t 15)) : pTM o (hsR G t j (some q)) u t s L k v sub root := by
  have h0 : ¬ gOnly u (0, 0) := fun z => hu z.symm
  have hf : gFr (gOnly u) o G o (hsR G t j (some q)) := gFr.rf.sR (Or.inr h.ow)
  have rb : ∀ b i, b ≠ t → hR (hsR G t j (some q)) b i = hR G b i := fun b i z => by rw [hR_sR, if_neg (fun w => z w.1)]
  have rj : ∀ i, i ≠ j → hR (hsR G t j (some q)) t i = hR G t i := fun i z => by rw [hR_sR, if_neg (fun w => z w.2)]
  have bt : ∀ b, b ∈ L → b ≠ t := fun b hb z => h.nt (by rw [← z]; exact hb)
  have jj : j = 6 ∨ j = 7 ∨ j = 1 := by
    rcases hj with z | z | z
    · exact Or.inl z.1
    · exact Or.inr (Or.inl z.1)
    · exact Or.inr (Or.inr z.1)
  refine ⟨h.c, h.ow, h.sz, (rj 2 (by omega)).trans h.cmp, (rj 3 (by omega)).trans h.rt, h.nt, h.len, fun b hb => ?_, h.ti.congr (fun b hb => rb b 2 (bt b hb)) (fun b hb => rb b 3 (bt b hb)) (fun b hb => rb b 4 (bt b hb)), ?_⟩
  · obtain ⟨a1, a2, ⟨a', a3, a4⟩, a5, a6⟩ := h.nd b hb
    exact ⟨a1, a2, ⟨a', (rb b 0 (bt b hb)).trans a3, a4.fr hf h0⟩, (rb b 1 (bt b hb)).trans a5, a6⟩
  · have key : ∀ (i ci : Nat), (i = j → pVc o G q t ci) → (∀ q, hR G t i = some q → hC G q = some (ci, true) ∧ o q = (0, 0) ∧ hR G q 0 = some t) → (∀ q', hR (hsR G t j (some q)) t i = some q' → hC (hsR G t j (some q)) q' = some (ci, true) ∧ o q' = (0, 0) ∧ hR (hsR G t j (some q)) q' 0 = some t) := by
      intro i ci hi g q' e
      rw [hR_sR] at e
      by_cases c : t = t ∧ i = j
      · rw [if_pos c] at e
        cases e
        exact (hi c.2).fr hf h0
      · rw [if_neg c] at e
        exact pVc.fr (g q' e) hf h0
    refine ⟨key 6 16 (fun z => ?_) h.vw.1, key 7 14 (fun z => ?_) h.vw.2.1, key 1 15 (fun z => ?_) h.vw.2.2⟩
    · rcases hj with y | y | y
      · exact y.2
      · omega
      · omega
    · rcases hj with y | y | y
      · omega
      · exact y.2
      · omega
    · rcases hj with y | y | y
      · omega
      · omega
      · exact y.2
/-- a new view of the map: the cell q with the map in its field 0 -/
theorem s_mkView {Q : hG → Prop} {q j ci : Nat} (h : pMp o G u t E) (hu : u ≠ (0, 0)) (hq : hfr G q) (hj : (j = 6 ∧ ci = 16) ∨ (j = 7 ∧ ci = 14) ∨ (j = 1 ∧ ci = 15)) (hQ : ∀ o' G', pMp o' G' u t E → pVc o' G' q t ci → gFr (gOnly u) o G o' G' → Q G') : hC (hsR (hnw G q ci 0) q 0 (some t)) t = some (9, true) ∧ Q (hsR (hsR (hnw G q ci 0) q 0 (some t)) t j (some q)) := by
  have h0 : ¬ gOnly u (0, 0) := fun z => hu z.symm
  have f1 : ∀ M, gFr M o G (gU o q (0, 0)) (hsR (hnw G q ci 0) q 0 (some t)) := fun M => (gFr.rf.nw (0, 0) hq).sR (Or.inl hq)
  have h1 := h.fr (f1 gNo) (fun z => z) (fun z => z)
  have v1 : pVc (gU o q (0, 0)) (hsR (hnw G q ci 0) q 0 (some t)) q t ci := ⟨by rw [hC_sR, hC_nw, if_pos rfl], gU_s, by rw [hR_sR, if_pos ⟨rfl, rfl⟩]⟩
  refine ⟨h1.c, ?_⟩
  obtain ⟨L, k, v, sub, root, g1, g2, g3⟩ := h1
  have f2 : gFr (gOnly u) (gU o q (0, 0)) (hsR (hnw G q ci 0) q 0 (some t)) (gU o q (0, 0)) (hsR (hsR (hnw G q ci 0) q 0 (some t)) t j (some q)) := gFr.rf.sR (Or.inr g1.ow)
  refine hQ _ _ ⟨L, k, v, sub, root, g1.vset hu ?_, g2, g3⟩ (v1.fr f2 h0) ((f1 _).tr f2)
  rcases hj with ⟨z1, z2⟩ | ⟨z1, z2⟩ | ⟨z1, z2⟩
  · rw [z2] at v1
    exact Or.inl ⟨z1, by rw [z2]; exact v1⟩
  · rw [z2] at v1
    exact Or.inr (Or.inl ⟨z1, by rw [z2]; exact v1⟩)
  · rw [z2] at v1
    exact Or.inr (Or.inr ⟨z1, by rw [z2]; exact v1⟩)
theorem pMp.view {j ci q : Nat} (h : pMp o G u t E) (hj : (j = 6 ∧ ci = 16) ∨ (j = 7 ∧ ci = 14) ∨ (j = 1 ∧ ci = 15)) (e : hR G t j = some q) : pVc o G q t ci := by
  obtain ⟨L, k, v, sub, root, g1, g2, g3⟩ := h
  rcases hj with ⟨z1, z2⟩ | ⟨z1, z2⟩ | ⟨z1, z2⟩
  · rw [z1] at e
    rw [z2]
    exact g1.vw.1 q e
  · rw [z1] at e
    rw [z2]
    exact g1.vw.2.1 q e
  · rw [z1] at e
    rw [z2]
    exact g1.vw.2.2 q e
theorem s_navKS {Q : hG → Option Nat → Prop} (h : pMp o G u t E) (hu : u ≠ (0, 0)) (hQ : ∀ o' G' q, pMp o' G' u t E → pVc o' G' q t 14 → gFr (gOnly u) o G o' G' → Q G' (some q)) : wJ1_navigableKeySet Q t G := by
  unfold wJ1_navigableKeySet
  refine ⟨hclt h.c, hlet_i ?_⟩
  cases e : hR G t 7 with
  | none =>
    refine cm_none fun q hq => hlet_i ?_
    unfold wJ18_init wJ3_init_c14 wJ2_init_c14 wJ1_navigableKeySet_b26
    refine ⟨by rw [hC_nw, if_pos rfl], hlet_i ?_⟩
    have := s_mkView (Q := fun G' => Q G' (some q)) h hu hq (Or.inr (Or.inl ⟨rfl, rfl⟩)) (fun o' G' a1 a2 a3 => hQ o' G' q a1 a2 a3)
    exact ⟨this.1, hlet_i this.2⟩
  | some q =>
    unfold wJ1_navigableKeySet_b26
    exact cm_some (hQ o G q h (h.view (Or.inr (Or.inl ⟨rfl, rfl⟩)) e) gFr.rf)
theorem s_entrySet {Q : hG → Option Nat → Prop} (h : pMp o G u t E) (hu : u ≠ (0, 0)) (hQ : ∀ o' G' q, pMp o' G' u t E → pVc o' G' q t 16 → gFr (gOnly u) o G o' G' → Q G' (some q)) : wJ1_entrySet Q t G := by
  unfold wJ1_entrySet
  refine ⟨hclt h.c, hlet_i ?_⟩
  cases e : hR G t 6 with
  | none =>
    refine cm_none fun q hq => hlet_i ?_
    unfold wJ14_init wJ3_init_c16 wJ2_init_c16 wJ1_entrySet_b26
    refine ⟨by rw [hC_nw, if_pos rfl], hlet_i ?_⟩
    have := s_mkView (Q := fun G' => Q G' (some q)) h hu hq (Or.inl ⟨rfl, rfl⟩) (fun o' G' a1 a2 a3 => hQ o' G' q a1 a2 a3)
    exact ⟨this.1, hlet_i this.2⟩
  | some q =>
    unfold wJ1_entrySet_b26
    exact cm_some (hQ o G q h (h.view (Or.inl ⟨rfl, rfl⟩) e) gFr.rf)
theorem s_values {Q : hG → Option Nat → Prop} (h : pMp o G u t E) (hu : u ≠ (0, 0)) (hQ : ∀ o' G' q, pMp o' G' u t E → pVc o' G' q t 15 → gFr (gOnly u) o G o' G' → Q G' (some q)) : wJ1_values Q t G := by
  unfold wJ1_values
  refine ⟨hclt h.c, hlet_i ?_⟩
  cases e : hR G t 1 with
  | none =>
    refine cm_none fun q hq => hlet_i ?_
    unfold wJ37_init wJ2_init_c15 wJ1_values_b23
    refine ⟨by rw [hC_nw, if_pos rfl], hlet_i ?_⟩
    have := s_mkView (Q := fun G' => Q G' (some q)) h hu hq (Or.inr (Or.inr ⟨rfl, rfl⟩)) (fun o' G' a1 a2 a3 => hQ o' G' q a1 a2 a3)
    exact ⟨this.1, hlet_i this.2⟩
  | some q =>
    unfold wJ1_values_b23
    exact cm_some (hQ o G q h (h.view (Or.inr (Or.inr ⟨rfl, rfl⟩)) e) gFr.rf)
/-- an iterator: behind E1, before E2 -/
def pIM (o : gO) (G : hG) (u : Nat × Nat) (t : Nat) (E1 E2 : List En) (it : Nat) (w : Nat × Nat) (ci : Nat) : Prop :=
  ∃ (L1 L2 : List Nat) (k : Nat → Wd) (v : Nat → Option Nat) (sub : Nat → List Nat) (root : Option Nat), pTM o G u t (L1 ++ L2).length (L1 ++ L2) k v sub root ∧ E1 = L1.map (fun n => (k n, v n)) ∧ E2 = L2.map (fun n => (k n, v n)) ∧ (E1 ++ E2).Pairwise eLt ∧ hC G it = some (ci, true) ∧ o it = w ∧ hR G it 3 = some t ∧ hI G it 2 = hI G t 5 ∧ hR G it 0 = L2.head?
theorem pIM.mp {ci : Nat} (h : pIM o G u t E1 E2 it w ci) : pMp o G u t (E1 ++ E2) := by
  obtain ⟨L1, L2, k, v, sub, root, h1, h2, h3, h4, -⟩ := h
  exact ⟨L1 ++ L2, k, v, sub, root, h1, by rw [h2, h3, List.map_append], h4⟩
theorem pIM.ic {ci : Nat} (h : pIM o G u t E1 E2 it w ci) : hC G it = some (ci, true) := by
  obtain ⟨L1, L2, k, v, sub, root, -, -, -, -, h5, -⟩ := h
  exact h5
theorem pIM.fr {M : Nat × Nat → Prop} {ci : Nat} (h : pIM o G u t E1 E2 it w ci) (hf : gFr M o G o' G') (hu : ¬ M u) (hw : ¬ M w) (h0 : ¬ M (0, 0)) : pIM o' G' u t E1 E2 it w ci := by
  obtain ⟨L1, L2, k, v, sub, root, h1, h2, h3, h4, h5, h6, h7, h8, h9⟩ := h
  have s1 := hf.S h1.c h1.ow hu
  have s2 := hf.S h5 h6 hw
  exact ⟨L1, L2, k, v, sub, root, h1.fr hf hu h0, h2, h3, h4, hf.C h5, (hf.O h5).trans h6, s2.R h7, by rw [s2.2.1, s1.2.1]; exact h8, s2.R h9⟩
theorem s_mkIt11 {Q : hG → Prop} {q : Nat} (h : pMp o G u t E) (w : Nat × Nat) (hq : hfr G q) (hQ : ∀ G', pIM (gU o q w) G' u t [] E q w 11 → (∀ M, gFr M o G (gU o q w) G') → Q G') : wJ1_getFirstEntry (fun G7 z7 => wJ15_init_c11 Q q t z7 G7) t (hnw G q 11 0) := by
  have f1 : ∀ M, gFr M o G (gU o q w) (hnw G q 11 0) := fun M => gFr.rf.nw w hq
  obtain ⟨L, k, v, sub, root, h1, h2, h3⟩ := h
  have h1' := h1.fr (f1 gNo) (fun z => z) (fun z => z)
  refine s_firstEntry h1' ?_
  unfold wJ15_init_c11
  have cq : hC (hnw G q 11 0) q = some (11, true) := by rw [hC_nw, if_pos rfl]
  refine ⟨cq, hlet_i ⟨hclt h1'.c, cq, hlet_i ⟨cq, hlet_i ⟨cq, hlet_i ?_⟩⟩⟩⟩
  have f2 : ∀ M, gFr M o G (gU o q w) (hsR (hsR (hsI (hsR (hnw G q 11 0) q 3 (some t)) q 2 (hI (hsR (hnw G q 11 0) q 3 (some t)) t 5)) q 1 none) q 0 L.head?) := fun M => ((((f1 M).sR (Or.inl hq)).sI (Or.inl hq)).sR (Or.inl hq)).sR (Or.inl hq)
  have qt : t ≠ q := fun z => by
    have := h1.c
    rw [z, hq] at this
    cases this
  refine hQ _ ⟨[], L, k, v, sub, root, h1.fr (f2 gNo) (fun z => z) (fun z => z), rfl, h2, h3, cq, gU_s, ?_, ?_, ?_⟩ f2
  · rw [hR_sR, if_neg (fun z => by have := z.2; omega), hR_sR, if_neg (fun z => by have := z.2; omega), hR_sI, hR_sR, if_pos ⟨rfl, rfl⟩]
  · rw [hI_sR, hI_sR, hI_sI, if_pos ⟨rfl, rfl⟩, hI_sR, hI_sI, if_neg (fun z => qt z.1), hI_sR]
  · rw [hR_sR, if_pos ⟨rfl, rfl⟩]
theorem s_hasN11 {Q : hG → Int32 → Prop} (h : pIM o G u t E1 E2 it w 11) (h0 : E2 = [] → Q G 0) (h1 : E2 ≠ [] → Q G 1) : wJ15_hasNext_c11 Q it G := by
  obtain ⟨L1, L2, k, v, sub, root, g1, g2, g3, g4, g5, g6, g7, g8, g9⟩ := h
  unfold wJ15_hasNext_c11 wJ15_hasNext_c11_b12
  refine ⟨hclt g5, hlet_i ?_⟩
  rw [g9]
  cases L2 with
  | nil => exact cm_none ⟨hft0, h0 (by rw [g3]; rfl)⟩
  | cons n L2 => exact cm_some ⟨hft1, h1 (by rw [g3]; simp)⟩
theorem s_nextE11 {Q : hG → Option Nat → Prop} {e : En} (h : pIM o G u t E1 (e :: E2) it w 11) (hwu : w ≠ u) (hw0 : w ≠ (0, 0)) (hQ : ∀ G' n, pIM o G' u t (E1 ++ [e]) E2 it w 11 → gFr (gOnly w) o G o G' → hC G' n = some (10, true) → (∃ a, hR G' n 0 = some a ∧ pW o G' a e.1) → hR G' n 1 = e.2 → Q G' (some n)) : wJ15_nextEntry_c11 Q it G := by
  obtain ⟨L1, L2, k, v, sub, root, g1, g2, g3, g4, g5, g6, g7, g8, g9⟩ := h
  cases L2 with
  | nil => cases g3
  | cons n L2 =>
    have e1 := (List.cons.inj g3).1
    have e2 := (List.cons.inj g3).2
    have hn : n ∈ L1 ++ n :: L2 := by simp
    unfold wJ15_nextEntry_c11
    refine ⟨hclt g5, hlet_i ?_⟩
    rw [g9]
    refine cm_some ⟨hclt g5, hlet_i ⟨t, g7, hclt g1.c, hclt g5, br_t g8.symm (s_succ g1 rfl ⟨g5, hlet_i ⟨g5, hlet_i ?_⟩⟩)⟩⟩
    have hf : gFr (gOnly w) o G o (hsR (hsR G it 0 L2.head?) it 1 (some n)) := (gFr.rf.sR (Or.inr g6)).sR (Or.inr g6)
    have hu : ¬ gOnly w u := fun z => hwu z.symm
    have h0 : ¬ gOnly w (0, 0) := fun z => hw0 z.symm
    have g1' := g1.fr hf hu h0
    obtain ⟨a1, a2, a3, a4, a5⟩ := g1'.nd n hn
    have itt : it ≠ t := fun z => by
      have := g1.c
      rw [← z, g5] at this
      cases this
    refine hQ _ n ⟨L1 ++ [n], L2, k, v, sub, root, ?_, ?_, e2, ?_, g5, g6, ?_, ?_, ?_⟩ hf a1 ?_ ?_
    · rw [show (L1 ++ [n]) ++ L2 = L1 ++ n :: L2 by simp]
      exact g1'
    · rw [g2, e1, List.map_append]
      rfl
    · rw [show (E1 ++ [e]) ++ E2 = E1 ++ e :: E2 by simp]
      exact g4
    · rw [hR_sR, if_neg (fun z => by have := z.2; omega), hR_sR, if_neg (fun z => by have := z.2; omega)]
      exact g7
    · exact g8
    · rw [hR_sR, if_neg (fun z => by have := z.2; omega), hR_sR, if_pos ⟨rfl, rfl⟩]
    · rw [e1]
      exact a3
    · rw [e1]
      exact a4
theorem s_mkIt12 {Q : hG → Prop} {q : Nat} (h : pMp o G u t E) (w : Nat × Nat) (hq : hfr G q) (hQ : ∀ G', pIM (gU o q w) G' u t [] E q w 12 → (∀ M, gFr M o G (gU o q w) G') → Q G') : wJ1_getFirstEntry (fun G7 z7 => wJ15_init_c12 Q q t z7 G7) t (hnw G q 12 0) := by
  have f1 : ∀ M, gFr M o G (gU o q w) (hnw G q 12 0) := fun M => gFr.rf.nw w hq
  obtain ⟨L, k, v, sub, root, h1, h2, h3⟩ := h
  have h1' := h1.fr (f1 gNo) (fun z => z) (fun z => z)
  refine s_firstEntry h1' ?_
  unfold wJ15_init_c12
  have cq : hC (hnw G q 12 0) q = some (12, true) := by rw [hC_nw, if_pos rfl]
  refine ⟨cq, hlet_i ⟨hclt h1'.c, cq, hlet_i ⟨cq, hlet_i ⟨cq, hlet_i ?_⟩⟩⟩⟩
  have f2 : ∀ M, gFr M o G (gU o q w) (hsR (hsR (hsI (hsR (hnw G q 12 0) q 3 (some t)) q 2 (hI (hsR (hnw G q 12 0) q 3 (some t)) t 5)) q 1 none) q 0 L.head?) := fun M => ((((f1 M).sR (Or.inl hq)).sI (Or.inl hq)).sR (Or.inl hq)).sR (Or.inl hq)
  have qt : t ≠ q := fun z => by
    have := h1.c
    rw [z, hq] at this
    cases this
  refine hQ _ ⟨[], L, k, v, sub, root, h1.fr (f2 gNo) (fun z => z) (fun z => z), rfl, h2, h3, cq, gU_s, ?_, ?_, ?_⟩ f2
  · rw [hR_sR, if_neg (fun z => by have := z.2; omega), hR_sR, if_neg (fun z => by have := z.2; omega), hR_sI, hR_sR, if_pos ⟨rfl, rfl⟩]
  · rw [hI_sR, hI_sR, hI_sI, if_pos ⟨rfl, rfl⟩, hI_sR, hI_sI, if_neg (fun z => qt z.1), hI_sR]
  · rw [hR_sR, if_pos ⟨rfl, rfl⟩]
theorem s_hasN12 {Q : hG → Int32 → Prop} (h : pIM o G u t E1 E2 it w 12) (h0 : E2 = [] → Q G 0) (h1 : E2 ≠ [] → Q G 1) : wJ15_hasNext_c12 Q it G := by
  obtain ⟨L1, L2, k, v, sub, root, g1, g2, g3, g4, g5, g6, g7, g8, g9⟩ := h
  unfold wJ15_hasNext_c12 wJ15_hasNext_c12_b12
  refine ⟨hclt g5, hlet_i ?_⟩
  rw [g9]
  cases L2 with
  | nil => exact cm_none ⟨hft0, h0 (by rw [g3]; rfl)⟩
  | cons n L2 => exact cm_some ⟨hft1, h1 (by rw [g3]; simp)⟩
theorem s_nextE12 {Q : hG → Option Nat → Prop} {e : En} (h : pIM o G u t E1 (e :: E2) it w 12) (hwu : w ≠ u) (hw0 : w ≠ (0, 0)) (hQ : ∀ G' n, pIM o G' u t (E1 ++ [e]) E2 it w 12 → gFr (gOnly w) o G o G' → hC G' n = some (10, true) → (∃ a, hR G' n 0 = some a ∧ pW o G' a e.1) → hR G' n 1 = e.2 → Q G' (some n)) : wJ15_nextEntry_c12 Q it G := by
  obtain ⟨L1, L2, k, v, sub, root, g1, g2, g3, g4, g5, g6, g7, g8, g9⟩ := h
  cases L2 with
  | nil => cases g3
  | cons n L2 =>
    have e1 := (List.cons.inj g3).1
    have e2 := (List.cons.inj g3).2
    have hn : n ∈ L1 ++ n :: L2 := by simp
    unfold wJ15_nextEntry_c12
    refine ⟨hclt g5, hlet_i ?_⟩
    rw [g9]
    refine cm_some ⟨hclt g5, hlet_i ⟨t, g7, hclt g1.c, hclt g5, br_t g8.symm (s_succ g1 rfl ⟨g5, hlet_i ⟨g5, hlet_i ?_⟩⟩)⟩⟩
    have hf : gFr (gOnly w) o G o (hsR (hsR G it 0 L2.head?) it 1 (some n)) := (gFr.rf.sR (Or.inr g6)).sR (Or.inr g6)
    have hu : ¬ gOnly w u := fun z => hwu z.symm
    have h0 : ¬ gOnly w (0, 0) := fun z => hw0 z.symm
    have g1' := g1.fr hf hu h0
    obtain ⟨a1, a2, a3, a4, a5⟩ := g1'.nd n hn
    have itt : it ≠ t := fun z => by
      have := g1.c
      rw [← z, g5] at this
      cases this
    refine hQ _ n ⟨L1 ++ [n], L2, k, v, sub, root, ?_, ?_, e2, ?_, g5, g6, ?_, ?_, ?_⟩ hf a1 ?_ ?_
    · rw [show (L1 ++ [n]) ++ L2 = L1 ++ n :: L2 by simp]
      exact g1'
    · rw [g2, e1, List.map_append]
      rfl
    · rw [show (E1 ++ [e]) ++ E2 = E1 ++ e :: E2 by simp]
      exact g4
    · rw [hR_sR, if_neg (fun z => by have := z.2; omega), hR_sR, if_neg (fun z => by have := z.2; omega)]
      exact g7
    · exact g8
    · rw [hR_sR, if_neg (fun z => by have := z.2; omega), hR_sR, if_pos ⟨rfl, rfl⟩]
    · rw [e1]
      exact a3
    · rw [e1]
      exact a4
theorem s_mkIt13 {Q : hG → Prop} {q : Nat} (h : pMp o G u t E) (w : Nat × Nat) (hq : hfr G q) (hQ : ∀ G', pIM (gU o q w) G' u t [] E q w 13 → (∀ M, gFr M o G (gU o q w) G') → Q G') : wJ1_getFirstEntry (fun G7 z7 => wJ15_init_c13 Q q t z7 G7) t (hnw G q 13 0) := by
  have f1 : ∀ M, gFr M o G (gU o q w) (hnw G q 13 0) := fun M => gFr.rf.nw w hq
  obtain ⟨L, k, v, sub, root, h1, h2, h3⟩ := h
  have h1' := h1.fr (f1 gNo) (fun z => z) (fun z => z)
  refine s_firstEntry h1' ?_
  unfold wJ15_init_c13
  have cq : hC (hnw G q 13 0) q = some (13, true) := by rw [hC_nw, if_pos rfl]
  refine ⟨cq, hlet_i ⟨hclt h1'.c, cq, hlet_i ⟨cq, hlet_i ⟨cq, hlet_i ?_⟩⟩⟩⟩
  have f2 : ∀ M, gFr M o G (gU o q w) (hsR (hsR (hsI (hsR (hnw G q 13 0) q 3 (some t)) q 2 (hI (hsR (hnw G q 13 0) q 3 (some t)) t 5)) q 1 none) q 0 L.head?) := fun M => ((((f1 M).sR (Or.inl hq)).sI (Or.inl hq)).sR (Or.inl hq)).sR (Or.inl hq)
  have qt : t ≠ q := fun z => by
    have := h1.c
    rw [z, hq] at this
    cases this
  refine hQ _ ⟨[], L, k, v, sub, root, h1.fr (f2 gNo) (fun z => z) (fun z => z), rfl, h2, h3, cq, gU_s, ?_, ?_, ?_⟩ f2
  · rw [hR_sR, if_neg (fun z => by have := z.2; omega), hR_sR, if_neg (fun z => by have := z.2; omega), hR_sI, hR_sR, if_pos ⟨rfl, rfl⟩]
  · rw [hI_sR, hI_sR, hI_sI, if_pos ⟨rfl, rfl⟩, hI_sR, hI_sI, if_neg (fun z => qt z.1), hI_sR]
  · rw [hR_sR, if_pos ⟨rfl, rfl⟩]
theorem s_hasN13 {Q : hG → Int32 → Prop} (h : pIM o G u t E1 E2 it w 13) (h0 : E2 = [] → Q G 0) (h1 : E2 ≠ [] → Q G 1) : wJ15_hasNext_c13 Q it G := by
  obtain ⟨L1, L2, k, v, sub, root, g1, g2, g3, g4, g5, g6, g7, g8, g9⟩ := h
  unfold wJ15_hasNext_c13 wJ15_hasNext_c13_b12
  refine ⟨hclt g5, hlet_i ?_⟩
  rw [g9]
  cases L2 with
  | nil => exact cm_none ⟨hft0, h0 (by rw [g3]; rfl)⟩
  | cons n L2 => exact cm_some ⟨hft1, h1 (by rw [g3]; simp)⟩
theorem s_nextE13 {Q : hG → Option Nat → Prop} {e : En} (h : pIM o G u t E1 (e :: E2) it w 13) (hwu : w ≠ u) (hw0 : w ≠ (0, 0)) (hQ : ∀ G' n, pIM o G' u t (E1 ++ [e]) E2 it w 13 → gFr (gOnly w) o G o G' → hC G' n = some (10, true) → (∃ a, hR G' n 0 = some a ∧ pW o G' a e.1) → hR G' n 1 = e.2 → Q G' (some n)) : wJ15_nextEntry_c13 Q it G := by
  obtain ⟨L1, L2, k, v, sub, root, g1, g2, g3, g4, g5, g6, g7, g8, g9⟩ := h
  cases L2 with
  | nil => cases g3
  | cons n L2 =>
    have e1 := (List.cons.inj g3).1
    have e2 := (List.cons.inj g3).2
    have hn : n ∈ L1 ++ n :: L2 := by simp
    unfold wJ15_nextEntry_c13
    refine ⟨hclt g5, hlet_i ?_⟩
    rw [g9]
    refine cm_some ⟨hclt g5, hlet_i ⟨t, g7, hclt g1.c, hclt g5, br_t g8.symm (s_succ g1 rfl ⟨g5, hlet_i ⟨g5, hlet_i ?_⟩⟩)⟩⟩
    have hf : gFr (gOnly w) o G o (hsR (hsR G it 0 L2.head?) it 1 (some n)) := (gFr.rf.sR (Or.inr g6)).sR (Or.inr g6)
    have hu : ¬ gOnly w u := fun z => hwu z.symm
    have h0 : ¬ gOnly w (0, 0) := fun z => hw0 z.symm
    have g1' := g1.fr hf hu h0
    obtain ⟨a1, a2, a3, a4, a5⟩ := g1'.nd n hn
    have itt : it ≠ t := fun z => by
      have := g1.c
      rw [← z, g5] at this
      cases this
    refine hQ _ n ⟨L1 ++ [n], L2, k, v, sub, root, ?_, ?_, e2, ?_, g5, g6, ?_, ?_, ?_⟩ hf a1 ?_ ?_
    · rw [show (L1 ++ [n]) ++ L2 = L1 ++ n :: L2 by simp]
      exact g1'
    · rw [g2, e1, List.map_append]
      rfl
    · rw [show (E1 ++ [e]) ++ E2 = E1 ++ e :: E2 by simp]
      exact g4
    · rw [hR_sR, if_neg (fun z => by have := z.2; omega), hR_sR, if_neg (fun z => by have := z.2; omega)]
      exact g7
    · exact g8
    · rw [hR_sR, if_neg (fun z => by have := z.2; omega), hR_sR, if_pos ⟨rfl, rfl⟩]
    · rw [e1]
      exact a3
    · rw [e1]
      exact a4
/-! the iterators' makers and nexts -/
theorem s_keyIt {Q : hG → Option Nat → Prop} (h : pMp o G u t E) (w : Nat × Nat) (hQ : ∀ o' G' q, hfr G q → pIM o' G' u t [] E q w 11 → (∀ M, gFr M o G o' G') → Q G' (some q)) : wJ1_keyIterator Q t G := by
  unfold wJ1_keyIterator
  intro q hq
  have h1 := h.fr (gFr.rf.nw (M := gNo) (n := 0) (ci := 11) w hq) (fun z => z) (fun z => z)
  refine hlet_i ⟨hclt h1.c, ?_⟩
  unfold wJ17_init
  exact s_mkIt11 h w hq fun G' a1 a2 => hQ _ G' q hq a1 a2
theorem s_ksIt {Q : hG → Option Nat → Prop} {x : Nat} (h : pMp o G u t E) (hx : pVc o G x t 14) (w : Nat × Nat) (hQ : ∀ o' G' q, hfr G q → pIM o' G' u t [] E q w 11 → (∀ M, gFr M o G o' G') → Q G' (some q)) : wJ18_iterator Q x G := by
  unfold wJ18_iterator
  refine ⟨hclt hx.1, hlet_i ⟨t, hx.2.2, hclt h.c, br_f (by decide) ⟨hclt hx.1, hlet_i ⟨fun y e => ?_, t, hx.2.2, hclt h.c, s_keyIt h w hQ⟩⟩⟩⟩
  rw [hx.2.2] at e
  cases e
  exact hclt h.c
theorem s_esIt {Q : hG → Option Nat → Prop} {x : Nat} (h : pMp o G u t E) (hx : pVc o G x t 16) (w : Nat × Nat) (hQ : ∀ o' G' q, hfr G q → pIM o' G' u t [] E q w 13 → (∀ M, gFr M o G o' G') → Q G' (some q)) : wJ14_iterator Q x G := by
  unfold wJ14_iterator
  intro q hq
  have f1 : gFr gNo o G (gU o q w) (hnw G q 13 0) := gFr.rf.nw w hq
  have h1 := h.fr f1 (fun z => z) (fun z => z)
  have hx1 := hx.fr f1 (fun z => z)
  refine hlet_i ⟨hclt hx1.1, hlet_i ⟨hclt hx1.1, hlet_i ⟨t, hx1.2.2, hclt h1.c, ?_⟩⟩⟩
  rw [hx1.2.2]
  have key := s_mkIt13 (Q := fun G' => Q G' (some q)) h w hq fun G' a1 a2 => hQ _ G' q hq a1 a2
  unfold wJ16_init
  have e : (fun (G11 : hG) (z12 : Option Nat) => ∃ a17, some t = some a17 ∧ wJ15_init_c13 (fun G1 => (fun G18 => Q G18 (some q)) G1) q a17 z12 G11) = (fun G11 z12 => wJ15_init_c13 (fun G' => Q G' (some q)) q t z12 G11) := by
    funext G11 z12
    exact propext ⟨fun ⟨a, h1, h2⟩ => by cases h1; exact h2, fun h1 => ⟨t, rfl, h1⟩⟩
  rw [e]
  exact key
theorem s_vsIt {Q : hG → Option Nat → Prop} {x : Nat} (h : pMp o G u t E) (hx : pVc o G x t 15) (w : Nat × Nat) (hQ : ∀ o' G' q, hfr G q → pIM o' G' u t [] E q w 12 → (∀ M, gFr M o G o' G') → Q G' (some q)) : wJ37_iterator Q x G := by
  unfold wJ37_iterator
  intro q hq
  have f1 : gFr gNo o G (gU o q w) (hnw G q 12 0) := gFr.rf.nw w hq
  have h1 := h.fr f1 (fun z => z) (fun z => z)
  have hx1 := hx.fr f1 (fun z => z)
  refine hlet_i ⟨hclt hx1.1, hlet_i ⟨hclt hx1.1, hlet_i ⟨t, hx1.2.2, hclt h1.c, ?_⟩⟩⟩
  rw [hx1.2.2]
  have key := s_mkIt12 (Q := fun G' => Q G' (some q)) h w hq fun G' a1 a2 => hQ _ G' q hq a1 a2
  unfold wJ32_init
  have e : (fun (G11 : hG) (z12 : Option Nat) => ∃ a17, some t = some a17 ∧ wJ15_init_c12 (fun G1 => (fun G18 => Q G18 (some q)) G1) q a17 z12 G11) = (fun G11 z12 => wJ15_init_c12 (fun G' => Q G' (some q)) q t z12 G11) := by
    funext G11 z12
    exact propext ⟨fun ⟨a, h1, h2⟩ => by cases h1; exact h2, fun h1 => ⟨t, rfl, h1⟩⟩
  rw [e]
  exact key
theorem s_next11 {Q : hG → Option Nat → Prop} {e : En} (h : pIM o G u t E1 (e :: E2) it w 11) (hwu : w ≠ u) (hw0 : w ≠ (0, 0)) (hQ : ∀ G' a, pIM o G' u t (E1 ++ [e]) E2 it w 11 → gFr (gOnly w) o G o G' → pW o G' a e.1 → Q G' (some a)) : wJ17_next Q it G := by
  unfold wJ17_next
  refine ⟨hclt h.ic, s_nextE11 h hwu hw0 fun G' n a1 a2 a3 ⟨a, a4, a5⟩ a6 => ⟨n, rfl, hclt a3, hlet_i ?_⟩⟩
  rw [a4]
  exact hQ G' a a1 a2 a5
theorem s_next12 {Q : hG → Option Nat → Prop} {e : En} (h : pIM o G u t E1 (e :: E2) it w 12) (hwu : w ≠ u) (hw0 : w ≠ (0, 0)) (hQ : ∀ G', pIM o G' u t (E1 ++ [e]) E2 it w 12 → gFr (gOnly w) o G o G' → Q G' e.2) : wJ32_next Q it G := by
  unfold wJ32_next
  refine ⟨hclt h.ic, s_nextE12 h hwu hw0 fun G' n a1 a2 a3 _ a6 => ⟨n, rfl, hclt a3, hlet_i ?_⟩⟩
  rw [a6]
  exact hQ G' a1 a2
theorem s_next13 {Q : hG → Option Nat → Prop} {e : En} (h : pIM o G u t E1 (e :: E2) it w 13) (hwu : w ≠ u) (hw0 : w ≠ (0, 0)) (hQ : ∀ G' n, pIM o G' u t (E1 ++ [e]) E2 it w 13 → gFr (gOnly w) o G o G' → hC G' n = some (10, true) → (∃ a, hR G' n 0 = some a ∧ pW o G' a e.1) → hR G' n 1 = e.2 → Q G' (some n)) : wJ16_next Q it G := by
  unfold wJ16_next wJ16_next_2
  exact ⟨hclt h.ic, hclt h.ic, s_nextE13 h hwu hw0 hQ⟩
end PIM
