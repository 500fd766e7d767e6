/-! ===== plain law 21: books; a new book; a copy (written by gen21.py) ===== -/
set_option maxRecDepth 100000
abbrev Bk : Type := List Wn × List Wd × List Mt × List Mt × List Mt × List Mt × (Nat → Int32) × (Nat → Int32)
def bW (B : Bk) : List Wn := B.1
def bN (B : Bk) : List Wd := B.2.1
def bP (B : Bk) : List Mt := B.2.2.1
def bB (B : Bk) : List Mt := B.2.2.2.1
def bS (B : Bk) : List Mt := B.2.2.2.2.1
def bL (B : Bk) : List Mt := B.2.2.2.2.2.1
def bK (B : Bk) : Nat → Int32 := B.2.2.2.2.2.2.1
def bE (B : Bk) : Nat → Int32 := B.2.2.2.2.2.2.2
def pIA (o : gO) (G : hG) (u : Nat × Nat) (a n : Nat) (f : Nat → Int32) : Prop := hC G a = some (100, true) ∧ o a = u ∧ hN G a = n ∧ ∀ k, k < n → hI G a k = f k
theorem pIA.fr {M : Nat × Nat → Prop} {o o' : gO} {G G' : hG} {u : Nat × Nat} {a n : Nat} {f : Nat → Int32} (h : pIA o G u a n f) (hf : gFr M o G o' G') (hu : ¬ M u) : pIA o' G' u a n f := by
  obtain ⟨h1, h2, h3, h4⟩ := h
  have s := hf.S h1 h2 hu
  exact ⟨hf.C h1, (hf.O h1).trans h2, s.N h3, fun k hk => s.I (h4 k hk)⟩
/-- a map just made -/
def p0M (o : gO) (G : hG) (u : Nat × Nat) (q : Nat) : Prop := hC G q = some (9, true) ∧ o q = u ∧ hI G q 4 = 0 ∧ ∀ j, hR G q j = none
theorem p0M.mp {o : gO} {G : hG} {u : Nat × Nat} {q : Nat} (h : p0M o G u q) : pMp o G u q [] := by
  obtain ⟨h1, h2, h3, h4⟩ := h
  refine ⟨[], fun _ => [], fun _ => none, fun _ => [], none, ⟨h1, h2, h3, h4 2, h4 3, by simp, by simp, fun n hn => (nomatch hn), TI.nil, ⟨fun x e => ?_, fun x e => ?_, fun x e => ?_⟩⟩, rfl, List.Pairwise.nil⟩
  · rw [h4] at e
    cases e
  · rw [h4] at e
    cases e
  · rw [h4] at e
    cases e
theorem s_new0M {Q : hG → Prop} {o : gO} {G : hG} {q : Nat} (u : Nat × Nat) (hq : hfr G q) (hQ : ∀ G', p0M (gU o q u) G' u q → (∀ M, gFr M o G (gU o q u) G') → Q G') : wJ1_init Q q (hnw G q 9 0) := by
  have c : hC (hnw G q 9 0) q = some (9, true) := by rw [hC_nw, if_pos rfl]
  unfold wJ1_init wJ0_init_c9
  refine ⟨c, hlet_i ⟨c, hlet_i ⟨c, hlet_i ?_⟩⟩⟩
  have f : ∀ M, gFr M o G (gU o q u) (hsR (hsI (hsI (hnw G q 9 0) q 4 0) q 5 0) q 2 none) := fun M => (((gFr.rf.nw u hq).sI (Or.inl hq)).sI (Or.inl hq)).sR (Or.inl hq)
  refine hQ _ ⟨c, gU_s, ?_, fun j => ?_⟩ f
  · rw [hI_sR, hI_sI, if_neg (fun z => by have := z.2; omega), hI_sI, if_pos ⟨rfl, rfl⟩]
  · rw [hR_sR]
    by_cases e : q = q ∧ j = 2
    · rw [if_pos e]
    · rw [if_neg e, hR_sI, hR_sI, hR_nw, if_pos rfl]
theorem s_newTS {P : Nat → hG → Prop} {o : gO} {G : hG} (u : Nat × Nat) (hQ : ∀ q o' G', hfr G q → pNs o' G' u q [] → (∀ M, gFr M o G o' G') → P q G') : ∀ q, hfr G q → hlet (hnw G q 17 0) fun G2 => wJ4_init (fun G3 => P q G3) q G2 := by
  intro q hq
  refine hlet_i ?_
  have f1 : ∀ M, gFr M o G (gU o q (0, 0)) (hnw G q 17 0) := fun M => gFr.rf.nw (0, 0) hq
  have cq : hC (hnw G q 17 0) q = some (17, true) := by rw [hC_nw, if_pos rfl]
  unfold wJ4_init
  intro p hp
  have pq : q ≠ p := fun z => by
    have := hp
    rw [← z] at this
    have h9 := cq
    rw [this] at h9
    cases h9
  refine hlet_i (s_new0M (o := gU o q (0, 0)) u hp fun G3 a1 a2 => ?_)
  unfold wJ4_init_2 wJ3_init_c17 wJ2_init_c17
  have cq3 := (a2 gNo).C cq
  refine ⟨cq3, hlet_i ?_⟩
  have f3 : ∀ M, gFr M o G (gU (gU o q (0, 0)) p u) (hsR G3 q 0 (some p)) := fun M => ((f1 M).tr (a2 M)).sR (Or.inl hq)
  have m3 : p0M (gU (gU o q (0, 0)) p u) (hsR G3 q 0 (some p)) u p := ⟨a1.1, a1.2.1, a1.2.2.1, fun j => by rw [hR_sR, if_neg (fun z => pq z.1.symm)]; exact a1.2.2.2 j⟩
  exact hQ q _ _ hq ⟨cq3, by rw [gU_n pq]; exact gU_s, p, by rw [hR_sR, if_pos ⟨rfl, rfl⟩], m3.mp⟩ f3
/-- a book: its number b, its cell a, the cells x of its parts -/
def pBr (o : gO) (G : hG) (b a : Nat) (x : Nat → Nat) (B : Bk) : Prop :=
  (hC G a = some (2, true) ∧ o a = (b, 8) ∧ ∀ k, k < 8 → hR G a k = some (x k)) ∧ pWs o G (b, 0) (x 0) (bW B) ∧ pNs o G (b, 1) (x 1) (bN B) ∧ pKt o G (b, 2) (x 2) 24 (bP B) ∧ pKt o G (b, 3) (x 3) 24 (bB B) ∧ pKt o G (b, 4) (x 4) 20 (bS B) ∧ pKt o G (b, 5) (x 5) 20 (bL B) ∧ pIA o G (b, 6) (x 6) 26 (bK B) ∧ pIA o G (b, 7) (x 7) 3 (bE B)
def pBk (o : gO) (G : hG) (b a : Nat) (B : Bk) : Prop := ∃ x, pBr o G b a x B
def bM (b : Nat) : Nat × Nat → Prop := fun v => v.1 = b
theorem pBr.fr {M : Nat × Nat → Prop} {o o' : gO} {G G' : hG} {b a : Nat} {x : Nat → Nat} {B : Bk} (h : pBr o G b a x B) (hf : gFr M o G o' G') (hu : ∀ i, ¬ M (b, i)) (h0 : ¬ M (0, 0)) : pBr o' G' b a x B := by
  obtain ⟨⟨h1, h2, h3⟩, g0, g1, g2, g3, g4, g5, g6, g7⟩ := h
  have s := hf.S h1 h2 (hu 8)
  exact ⟨⟨hf.C h1, (hf.O h1).trans h2, fun k hk => s.R (h3 k hk)⟩, g0.fr hf (hu 0) h0, g1.fr hf (hu 1) h0, g2.fr hf (hu 2) h0, g3.fr hf (hu 3) h0, g4.fr hf (hu 4) h0, g5.fr hf (hu 5) h0, g6.fr hf (hu 6), g7.fr hf (hu 7)⟩
theorem pBk.fr {M : Nat × Nat → Prop} {o o' : gO} {G G' : hG} {b a : Nat} {B : Bk} (h : pBk o G b a B) (hf : gFr M o G o' G') (hu : ∀ i, ¬ M (b, i)) (h0 : ¬ M (0, 0)) : pBk o' G' b a B := by
  obtain ⟨x, h⟩ := h
  exact ⟨x, h.fr hf hu h0⟩
theorem on_ne {b i j : Nat} (h : i ≠ j) : ¬ gOnly (b, i) (b, j) := fun z => h (congrArg Prod.snd z).symm
theorem on_0 {b i : Nat} (h : b ≠ 0) : ¬ gOnly (b, i) (0, 0) := fun z => h (congrArg Prod.fst z).symm
theorem on_b {b c i j : Nat} (h : b ≠ c) : ¬ gOnly (b, i) (c, j) := fun z => h (congrArg Prod.fst z).symm
theorem on_00 {b i : Nat} (h : b ≠ 0) : ((b, i) : Nat × Nat) ≠ (0, 0) := fun z => h (congrArg Prod.fst z)
section PUT
variable {o o' : gO} {G G' : hG} {b a : Nat} {x : Nat → Nat} {B : Bk}
theorem pBr.cell {i : Nat} (h : pBr o G b a x B) (hi : i ≠ 8) (hf : gFr (gOnly (b, i)) o G o' G') : hC G' a = some (2, true) ∧ o' a = (b, 8) ∧ ∀ k, k < 8 → hR G' a k = some (x k) := by
  obtain ⟨⟨h1, h2, h3⟩, -⟩ := h
  have s := hf.S h1 h2 (on_ne hi)
  exact ⟨hf.C h1, (hf.O h1).trans h2, fun k hk => s.R (h3 k hk)⟩
theorem pBr.put0 {V : List Wn} (h : pBr o G b a x B) (hb : b ≠ 0) (hf : gFr (gOnly (b, 0)) o G o' G') (g : pWs o' G' (b, 0) (x 0) V) : pBr o' G' b a x (V, bN B, bP B, bB B, bS B, bL B, bK B, bE B) := by
  have hc := h.cell (by decide) hf
  obtain ⟨-, g0, g1, g2, g3, g4, g5, g6, g7⟩ := h
  exact ⟨hc, g, g1.fr hf (on_ne (by decide)) (on_0 hb), g2.fr hf (on_ne (by decide)) (on_0 hb), g3.fr hf (on_ne (by decide)) (on_0 hb), g4.fr hf (on_ne (by decide)) (on_0 hb), g5.fr hf (on_ne (by decide)) (on_0 hb), g6.fr hf (on_ne (by decide)), g7.fr hf (on_ne (by decide))⟩
theorem pBr.put1 {V : List Wd} (h : pBr o G b a x B) (hb : b ≠ 0) (hf : gFr (gOnly (b, 1)) o G o' G') (g : pNs o' G' (b, 1) (x 1) V) : pBr o' G' b a x (bW B, V, bP B, bB B, bS B, bL B, bK B, bE B) := by
  have hc := h.cell (by decide) hf
  obtain ⟨-, g0, g1, g2, g3, g4, g5, g6, g7⟩ := h
  exact ⟨hc, g0.fr hf (on_ne (by decide)) (on_0 hb), g, g2.fr hf (on_ne (by decide)) (on_0 hb), g3.fr hf (on_ne (by decide)) (on_0 hb), g4.fr hf (on_ne (by decide)) (on_0 hb), g5.fr hf (on_ne (by decide)) (on_0 hb), g6.fr hf (on_ne (by decide)), g7.fr hf (on_ne (by decide))⟩
theorem pBr.put2 {V : List Mt} (h : pBr o G b a x B) (hb : b ≠ 0) (hf : gFr (gOnly (b, 2)) o G o' G') (g : pKt o' G' (b, 2) (x 2) 24 V) : pBr o' G' b a x (bW B, bN B, V, bB B, bS B, bL B, bK B, bE B) := by
  have hc := h.cell (by decide) hf
  obtain ⟨-, g0, g1, g2, g3, g4, g5, g6, g7⟩ := h
  exact ⟨hc, g0.fr hf (on_ne (by decide)) (on_0 hb), g1.fr hf (on_ne (by decide)) (on_0 hb), g, g3.fr hf (on_ne (by decide)) (on_0 hb), g4.fr hf (on_ne (by decide)) (on_0 hb), g5.fr hf (on_ne (by decide)) (on_0 hb), g6.fr hf (on_ne (by decide)), g7.fr hf (on_ne (by decide))⟩
theorem pBr.put3 {V : List Mt} (h : pBr o G b a x B) (hb : b ≠ 0) (hf : gFr (gOnly (b, 3)) o G o' G') (g : pKt o' G' (b, 3) (x 3) 24 V) : pBr o' G' b a x (bW B, bN B, bP B, V, bS B, bL B, bK B, bE B) := by
  have hc := h.cell (by decide) hf
  obtain ⟨-, g0, g1, g2, g3, g4, g5, g6, g7⟩ := h
  exact ⟨hc, g0.fr hf (on_ne (by decide)) (on_0 hb), g1.fr hf (on_ne (by decide)) (on_0 hb), g2.fr hf (on_ne (by decide)) (on_0 hb), g, g4.fr hf (on_ne (by decide)) (on_0 hb), g5.fr hf (on_ne (by decide)) (on_0 hb), g6.fr hf (on_ne (by decide)), g7.fr hf (on_ne (by decide))⟩
theorem pBr.put4 {V : List Mt} (h : pBr o G b a x B) (hb : b ≠ 0) (hf : gFr (gOnly (b, 4)) o G o' G') (g : pKt o' G' (b, 4) (x 4) 20 V) : pBr o' G' b a x (bW B, bN B, bP B, bB B, V, bL B, bK B, bE B) := by
  have hc := h.cell (by decide) hf
  obtain ⟨-, g0, g1, g2, g3, g4, g5, g6, g7⟩ := h
  exact ⟨hc, g0.fr hf (on_ne (by decide)) (on_0 hb), g1.fr hf (on_ne (by decide)) (on_0 hb), g2.fr hf (on_ne (by decide)) (on_0 hb), g3.fr hf (on_ne (by decide)) (on_0 hb), g, g5.fr hf (on_ne (by decide)) (on_0 hb), g6.fr hf (on_ne (by decide)), g7.fr hf (on_ne (by decide))⟩
theorem pBr.put5 {V : List Mt} (h : pBr o G b a x B) (hb : b ≠ 0) (hf : gFr (gOnly (b, 5)) o G o' G') (g : pKt o' G' (b, 5) (x 5) 20 V) : pBr o' G' b a x (bW B, bN B, bP B, bB B, bS B, V, bK B, bE B) := by
  have hc := h.cell (by decide) hf
  obtain ⟨-, g0, g1, g2, g3, g4, g5, g6, g7⟩ := h
  exact ⟨hc, g0.fr hf (on_ne (by decide)) (on_0 hb), g1.fr hf (on_ne (by decide)) (on_0 hb), g2.fr hf (on_ne (by decide)) (on_0 hb), g3.fr hf (on_ne (by decide)) (on_0 hb), g4.fr hf (on_ne (by decide)) (on_0 hb), g, g6.fr hf (on_ne (by decide)), g7.fr hf (on_ne (by decide))⟩
theorem pBr.put6 {V : Nat → Int32} (h : pBr o G b a x B) (hb : b ≠ 0) (hf : gFr (gOnly (b, 6)) o G o' G') (g : pIA o' G' (b, 6) (x 6) 26 V) : pBr o' G' b a x (bW B, bN B, bP B, bB B, bS B, bL B, V, bE B) := by
  have hc := h.cell (by decide) hf
  obtain ⟨-, g0, g1, g2, g3, g4, g5, g6, g7⟩ := h
  exact ⟨hc, g0.fr hf (on_ne (by decide)) (on_0 hb), g1.fr hf (on_ne (by decide)) (on_0 hb), g2.fr hf (on_ne (by decide)) (on_0 hb), g3.fr hf (on_ne (by decide)) (on_0 hb), g4.fr hf (on_ne (by decide)) (on_0 hb), g5.fr hf (on_ne (by decide)) (on_0 hb), g, g7.fr hf (on_ne (by decide))⟩
theorem pBr.put7 {V : Nat → Int32} (h : pBr o G b a x B) (hb : b ≠ 0) (hf : gFr (gOnly (b, 7)) o G o' G') (g : pIA o' G' (b, 7) (x 7) 3 V) : pBr o' G' b a x (bW B, bN B, bP B, bB B, bS B, bL B, bK B, V) := by
  have hc := h.cell (by decide) hf
  obtain ⟨-, g0, g1, g2, g3, g4, g5, g6, g7⟩ := h
  exact ⟨hc, g0.fr hf (on_ne (by decide)) (on_0 hb), g1.fr hf (on_ne (by decide)) (on_0 hb), g2.fr hf (on_ne (by decide)) (on_0 hb), g3.fr hf (on_ne (by decide)) (on_0 hb), g4.fr hf (on_ne (by decide)) (on_0 hb), g5.fr hf (on_ne (by decide)) (on_0 hb), g6.fr hf (on_ne (by decide)), g⟩
end PUT
/-- a book just made -/
def pB0 (o : gO) (G : hG) (b a : Nat) (x : Nat → Nat) (sk se : Nat → Int32) : Prop :=
  (hC G a = some (2, true) ∧ o a = (b, 8) ∧ ∀ k, k < 8 → hR G a k = some (x k)) ∧ pMp o G (b, 0) (x 0) [] ∧ pNs o G (b, 1) (x 1) [] ∧ pK0 o G (b, 2) (x 2) 24 ∧ pK0 o G (b, 3) (x 3) 24 ∧ pK0 o G (b, 4) (x 4) 20 ∧ pK0 o G (b, 5) (x 5) 20 ∧ pIA o G (b, 6) (x 6) 26 sk ∧ pIA o G (b, 7) (x 7) 3 se
theorem s_Binit {Q : hG → Prop} {o0 o : gO} {G0 G : hG} {b q v1 v2 : Nat} {sk se : Nat → Int32} (hb : b ≠ 0) (ha : kA o G) (F0 : ∀ M, gFr M o0 G0 o G) (hq0 : hC G0 q = none) (hq : hC G q = some (2, true)) (ho : o q = (b, 8)) (hk : pIA o G (b, 6) v1 26 sk) (he : pIA o G (b, 7) v2 3 se) (hQ : ∀ o' G' x, pB0 o' G' b q x sk se → (∀ M, gFr M o0 G0 o' G') → Q G') : wX2_init Q q v1 v2 G := by
  have nu : ∀ j, j ≠ 8 → ¬ gOnly (b, 8) (b, j) := fun j hj => on_ne (fun z => hj z.symm)
  have n0 : ¬ gOnly (b, 8) (0, 0) := on_0 hb
  have nn : ∀ u, ¬ gNo u := fun u z => z
  unfold wX2_init
  intro t ht
  refine hlet_i (s_new0M (o := o) (b, 0) ht fun G1 p0 f1 => ?_)
  obtain ⟨o1, ho1⟩ : ∃ o1, o1 = gU o t (b, 0) := ⟨_, rfl⟩
  rw [← ho1] at p0 f1
  replace p0 := p0.mp
  have c0 : hC G1 q = some (2, true) := (f1 gNo).C hq
  have w0 : o1 q = (b, 8) := ((f1 gNo).O hq).trans ho
  have s0 := (f1 gNo).S hq ho (nn _)
  refine ⟨c0, hlet_i ?_⟩
  obtain ⟨G2, e0⟩ : ∃ G99, G99 = hsR G1 q 0 (some t) := ⟨_, rfl⟩
  rw [← e0]
  have f2 : gFr (gOnly (b, 8)) o1 G1 o1 G2 := by rw [e0]; exact gFr.rf.sR (Or.inr w0)
  have F1 : ∀ M, gFr M o0 G0 o1 G2 := fun M => by rw [e0]; exact ((F0 M).tr (f1 M)).sR (Or.inl hq0)
  have ha0 := (ha.fr (f1 gNo) (nn _)).fr f2 n0
  have hk0 := (hk.fr (f1 gNo) (nn _)).fr f2 (nu 6 (by decide))
  have he0 := (he.fr (f1 gNo) (nn _)).fr f2 (nu 7 (by decide))
  have cc0 : hC G2 q = some (2, true) ∧ o1 q = (b, 8) := ⟨f2.C c0, w0⟩
  have r0_0 : hR G2 q 0 = some t := by rw [e0, hR_sR, if_pos ⟨rfl, rfl⟩]
  replace p0 := p0.fr f2 (nu 0 (by decide)) n0
  refine s_newTS (o := o1) (b, 1) ?_
  intro s o2 G3 hf1 p1 f3
  have c1 : hC G3 q = some (2, true) := (f3 gNo).C cc0.1
  have w1 : o2 q = (b, 8) := ((f3 gNo).O cc0.1).trans cc0.2
  have s1 := (f3 gNo).S cc0.1 cc0.2 (nn _)
  refine ⟨c1, hlet_i ?_⟩
  obtain ⟨G4, e1⟩ : ∃ G99, G99 = hsR G3 q 1 (some s) := ⟨_, rfl⟩
  rw [← e1]
  have f4 : gFr (gOnly (b, 8)) o2 G3 o2 G4 := by rw [e1]; exact gFr.rf.sR (Or.inr w1)
  have F2 : ∀ M, gFr M o0 G0 o2 G4 := fun M => by rw [e1]; exact ((F1 M).tr (f3 M)).sR (Or.inl hq0)
  have ha1 := (ha0.fr (f3 gNo) (nn _)).fr f4 n0
  have hk1 := (hk0.fr (f3 gNo) (nn _)).fr f4 (nu 6 (by decide))
  have he1 := (he0.fr (f3 gNo) (nn _)).fr f4 (nu 7 (by decide))
  have cc1 : hC G4 q = some (2, true) ∧ o2 q = (b, 8) := ⟨f4.C c1, w1⟩
  have r1_1 : hR G4 q 1 = some s := by rw [e1, hR_sR, if_pos ⟨rfl, rfl⟩]
  have r1_0 : hR G4 q 0 = some t := by rw [e1, hR_sR, if_neg (fun z => by have := z.2; omega)]; exact s1.R r0_0
  replace p0 := (p0.fr (f3 gNo) (nn _) (nn _)).fr f4 (nu 0 (by decide)) n0
  replace p1 := p1.fr f4 (nu 1 (by decide)) n0
  refine s_newKept (o := o2) (b, 2) ha1 ?_
  intro k2 o3 G5 hf2 p2 f5
  have c2 : hC G5 q = some (2, true) := (f5 gNo).C cc1.1
  have w2 : o3 q = (b, 8) := ((f5 gNo).O cc1.1).trans cc1.2
  have s2 := (f5 gNo).S cc1.1 cc1.2 (nn _)
  refine ⟨c2, hlet_i ?_⟩
  obtain ⟨G6, e2⟩ : ∃ G99, G99 = hsR G5 q 2 (some k2) := ⟨_, rfl⟩
  rw [← e2]
  have f6 : gFr (gOnly (b, 8)) o3 G5 o3 G6 := by rw [e2]; exact gFr.rf.sR (Or.inr w2)
  have F3 : ∀ M, gFr M o0 G0 o3 G6 := fun M => by rw [e2]; exact ((F2 M).tr (f5 M)).sR (Or.inl hq0)
  have ha2 := (ha1.fr (f5 gNo) (nn _)).fr f6 n0
  have hk2 := (hk1.fr (f5 gNo) (nn _)).fr f6 (nu 6 (by decide))
  have he2 := (he1.fr (f5 gNo) (nn _)).fr f6 (nu 7 (by decide))
  have cc2 : hC G6 q = some (2, true) ∧ o3 q = (b, 8) := ⟨f6.C c2, w2⟩
  have r2_2 : hR G6 q 2 = some k2 := by rw [e2, hR_sR, if_pos ⟨rfl, rfl⟩]
  have r2_0 : hR G6 q 0 = some t := by rw [e2, hR_sR, if_neg (fun z => by have := z.2; omega)]; exact s2.R r1_0
  have r2_1 : hR G6 q 1 = some s := by rw [e2, hR_sR, if_neg (fun z => by have := z.2; omega)]; exact s2.R r1_1
  replace p0 := (p0.fr (f5 gNo) (nn _) (nn _)).fr f6 (nu 0 (by decide)) n0
  replace p1 := (p1.fr (f5 gNo) (nn _) (nn _)).fr f6 (nu 1 (by decide)) n0
  replace p2 := p2.fr f6 (nu 2 (by decide)) n0
  refine s_newKept (o := o3) (b, 3) ha2 ?_
  intro k3 o4 G7 hf3 p3 f7
  have c3 : hC G7 q = some (2, true) := (f7 gNo).C cc2.1
  have w3 : o4 q = (b, 8) := ((f7 gNo).O cc2.1).trans cc2.2
  have s3 := (f7 gNo).S cc2.1 cc2.2 (nn _)
  refine ⟨c3, hlet_i ?_⟩
  obtain ⟨G8, e3⟩ : ∃ G99, G99 = hsR G7 q 3 (some k3) := ⟨_, rfl⟩
  rw [← e3]
  have f8 : gFr (gOnly (b, 8)) o4 G7 o4 G8 := by rw [e3]; exact gFr.rf.sR (Or.inr w3)
  have F4 : ∀ M, gFr M o0 G0 o4 G8 := fun M => by rw [e3]; exact ((F3 M).tr (f7 M)).sR (Or.inl hq0)
  have ha3 := (ha2.fr (f7 gNo) (nn _)).fr f8 n0
  have hk3 := (hk2.fr (f7 gNo) (nn _)).fr f8 (nu 6 (by decide))
  have he3 := (he2.fr (f7 gNo) (nn _)).fr f8 (nu 7 (by decide))
  have cc3 : hC G8 q = some (2, true) ∧ o4 q = (b, 8) := ⟨f8.C c3, w3⟩
  have r3_3 : hR G8 q 3 = some k3 := by rw [e3, hR_sR, if_pos ⟨rfl, rfl⟩]
  have r3_0 : hR G8 q 0 = some t := by rw [e3, hR_sR, if_neg (fun z => by have := z.2; omega)]; exact s3.R r2_0
  have r3_1 : hR G8 q 1 = some s := by rw [e3, hR_sR, if_neg (fun z => by have := z.2; omega)]; exact s3.R r2_1
  have r3_2 : hR G8 q 2 = some k2 := by rw [e3, hR_sR, if_neg (fun z => by have := z.2; omega)]; exact s3.R r2_2
  replace p0 := (p0.fr (f7 gNo) (nn _) (nn _)).fr f8 (nu 0 (by decide)) n0
  replace p1 := (p1.fr (f7 gNo) (nn _) (nn _)).fr f8 (nu 1 (by decide)) n0
  replace p2 := (p2.fr (f7 gNo) (nn _) (nn _)).fr f8 (nu 2 (by decide)) n0
  replace p3 := p3.fr f8 (nu 3 (by decide)) n0
  refine s_newKept (o := o4) (b, 4) ha3 ?_
  intro k4 o5 G9 hf4 p4 f9
  have c4 : hC G9 q = some (2, true) := (f9 gNo).C cc3.1
  have w4 : o5 q = (b, 8) := ((f9 gNo).O cc3.1).trans cc3.2
  have s4 := (f9 gNo).S cc3.1 cc3.2 (nn _)
  refine ⟨c4, hlet_i ?_⟩
  obtain ⟨G10, e4⟩ : ∃ G99, G99 = hsR G9 q 4 (some k4) := ⟨_, rfl⟩
  rw [← e4]
  have f10 : gFr (gOnly (b, 8)) o5 G9 o5 G10 := by rw [e4]; exact gFr.rf.sR (Or.inr w4)
  have F5 : ∀ M, gFr M o0 G0 o5 G10 := fun M => by rw [e4]; exact ((F4 M).tr (f9 M)).sR (Or.inl hq0)
  have ha4 := (ha3.fr (f9 gNo) (nn _)).fr f10 n0
  have hk4 := (hk3.fr (f9 gNo) (nn _)).fr f10 (nu 6 (by decide))
  have he4 := (he3.fr (f9 gNo) (nn _)).fr f10 (nu 7 (by decide))
  have cc4 : hC G10 q = some (2, true) ∧ o5 q = (b, 8) := ⟨f10.C c4, w4⟩
  have r4_4 : hR G10 q 4 = some k4 := by rw [e4, hR_sR, if_pos ⟨rfl, rfl⟩]
  have r4_0 : hR G10 q 0 = some t := by rw [e4, hR_sR, if_neg (fun z => by have := z.2; omega)]; exact s4.R r3_0
  have r4_1 : hR G10 q 1 = some s := by rw [e4, hR_sR, if_neg (fun z => by have := z.2; omega)]; exact s4.R r3_1
  have r4_2 : hR G10 q 2 = some k2 := by rw [e4, hR_sR, if_neg (fun z => by have := z.2; omega)]; exact s4.R r3_2
  have r4_3 : hR G10 q 3 = some k3 := by rw [e4, hR_sR, if_neg (fun z => by have := z.2; omega)]; exact s4.R r3_3
  replace p0 := (p0.fr (f9 gNo) (nn _) (nn _)).fr f10 (nu 0 (by decide)) n0
  replace p1 := (p1.fr (f9 gNo) (nn _) (nn _)).fr f10 (nu 1 (by decide)) n0
  replace p2 := (p2.fr (f9 gNo) (nn _) (nn _)).fr f10 (nu 2 (by decide)) n0
  replace p3 := (p3.fr (f9 gNo) (nn _) (nn _)).fr f10 (nu 3 (by decide)) n0
  replace p4 := p4.fr f10 (nu 4 (by decide)) n0
  refine s_newKept (o := o5) (b, 5) ha4 ?_
  intro k5 o6 G11 hf5 p5 f11
  have c5 : hC G11 q = some (2, true) := (f11 gNo).C cc4.1
  have w5 : o6 q = (b, 8) := ((f11 gNo).O cc4.1).trans cc4.2
  have s5 := (f11 gNo).S cc4.1 cc4.2 (nn _)
  refine ⟨c5, hlet_i ?_⟩
  obtain ⟨G12, e5⟩ : ∃ G99, G99 = hsR G11 q 5 (some k5) := ⟨_, rfl⟩
  rw [← e5]
  have f12 : gFr (gOnly (b, 8)) o6 G11 o6 G12 := by rw [e5]; exact gFr.rf.sR (Or.inr w5)
  have F6 : ∀ M, gFr M o0 G0 o6 G12 := fun M => by rw [e5]; exact ((F5 M).tr (f11 M)).sR (Or.inl hq0)
  have ha5 := (ha4.fr (f11 gNo) (nn _)).fr f12 n0
  have hk5 := (hk4.fr (f11 gNo) (nn _)).fr f12 (nu 6 (by decide))
  have he5 := (he4.fr (f11 gNo) (nn _)).fr f12 (nu 7 (by decide))
  have cc5 : hC G12 q = some (2, true) ∧ o6 q = (b, 8) := ⟨f12.C c5, w5⟩
  have r5_5 : hR G12 q 5 = some k5 := by rw [e5, hR_sR, if_pos ⟨rfl, rfl⟩]
  have r5_0 : hR G12 q 0 = some t := by rw [e5, hR_sR, if_neg (fun z => by have := z.2; omega)]; exact s5.R r4_0
  have r5_1 : hR G12 q 1 = some s := by rw [e5, hR_sR, if_neg (fun z => by have := z.2; omega)]; exact s5.R r4_1
  have r5_2 : hR G12 q 2 = some k2 := by rw [e5, hR_sR, if_neg (fun z => by have := z.2; omega)]; exact s5.R r4_2
  have r5_3 : hR G12 q 3 = some k3 := by rw [e5, hR_sR, if_neg (fun z => by have := z.2; omega)]; exact s5.R r4_3
  have r5_4 : hR G12 q 4 = some k4 := by rw [e5, hR_sR, if_neg (fun z => by have := z.2; omega)]; exact s5.R r4_4
  replace p0 := (p0.fr (f11 gNo) (nn _) (nn _)).fr f12 (nu 0 (by decide)) n0
  replace p1 := (p1.fr (f11 gNo) (nn _) (nn _)).fr f12 (nu 1 (by decide)) n0
  replace p2 := (p2.fr (f11 gNo) (nn _) (nn _)).fr f12 (nu 2 (by decide)) n0
  replace p3 := (p3.fr (f11 gNo) (nn _) (nn _)).fr f12 (nu 3 (by decide)) n0
  replace p4 := (p4.fr (f11 gNo) (nn _) (nn _)).fr f12 (nu 4 (by decide)) n0
  replace p5 := p5.fr f12 (nu 5 (by decide)) n0
  refine ⟨cc5.1, hlet_i ⟨cc5.1, hlet_i ?_⟩⟩
  have fz : gFr (gOnly (b, 8)) o6 G12 o6 (hsR (hsR G12 q 6 (some v1)) q 7 (some v2)) := ((gFr.rf (M := gOnly (b, 8))).sR (Or.inr cc5.2)).sR (Or.inr cc5.2)
  refine hQ o6 _ (fun k => if k = 0 then t else if k = 1 then s else if k = 2 then k2 else if k = 3 then k3 else if k = 4 then k4 else if k = 5 then k5 else if k = 6 then v1 else v2) ⟨⟨cc5.1, cc5.2, fun k hk9 => ?_⟩, p0.fr fz (nu 0 (by decide)) n0, p1.fr fz (nu 1 (by decide)) n0, p2.fr fz (nu 2 (by decide)) n0, p3.fr fz (nu 3 (by decide)) n0, p4.fr fz (nu 4 (by decide)) n0, p5.fr fz (nu 5 (by decide)) n0, hk5.fr fz (nu 6 (by decide)), he5.fr fz (nu 7 (by decide))⟩ fun M => ((F6 M).sR (Or.inl hq0)).sR (Or.inl hq0)
  have hz : k = 0 ∨ k = 1 ∨ k = 2 ∨ k = 3 ∨ k = 4 ∨ k = 5 ∨ k = 6 ∨ k = 7 := by omega
  rcases hz with z | z | z | z | z | z | z | z <;> subst z
  · rw [hR_sR, if_neg (fun z => by have := z.2; omega), hR_sR, if_neg (fun z => by have := z.2; omega)]
    exact r5_0
  · rw [hR_sR, if_neg (fun z => by have := z.2; omega), hR_sR, if_neg (fun z => by have := z.2; omega)]
    exact r5_1
  · rw [hR_sR, if_neg (fun z => by have := z.2; omega), hR_sR, if_neg (fun z => by have := z.2; omega)]
    exact r5_2
  · rw [hR_sR, if_neg (fun z => by have := z.2; omega), hR_sR, if_neg (fun z => by have := z.2; omega)]
    exact r5_3
  · rw [hR_sR, if_neg (fun z => by have := z.2; omega), hR_sR, if_neg (fun z => by have := z.2; omega)]
    exact r5_4
  · rw [hR_sR, if_neg (fun z => by have := z.2; omega), hR_sR, if_neg (fun z => by have := z.2; omega)]
    exact r5_5
  · rw [hR_sR, if_neg (fun z => by have := z.2; omega), hR_sR, if_pos ⟨rfl, rfl⟩]
    rfl
  · rw [hR_sR, if_pos ⟨rfl, rfl⟩]
    rfl
theorem s_cloneI {o : gO} {G : hG} {u us : Nat × Nat} {a n q : Nat} {f : Nat → Int32} (h : pIA o G us a n f) (hq : hfr G q) : pIA (gU o q u) (hcpI (hnw G q 100 (hN G a)) q 0 (hI G a) 0 (hN G a)) u q n f ∧ ∀ M, gFr M o G (gU o q u) (hcpI (hnw G q 100 (hN G a)) q 0 (hI G a) 0 (hN G a)) := by
  obtain ⟨h1, h2, h3, h4⟩ := h
  refine ⟨⟨by rw [hC_cpI, hC_nw, if_pos rfl], gU_s, by rw [hN_cpI, hN_nw, if_pos rfl]; exact h3, fun k hk => ?_⟩, fun M => (gFr.rf.nw u hq).cpI (Or.inl hq)⟩
  rw [hI_cpI, if_pos rfl, pk_cpy_in (Nat.zero_le _) (by omega), show 0 + (k - 0) = k by omega]
  exact h4 k hk
