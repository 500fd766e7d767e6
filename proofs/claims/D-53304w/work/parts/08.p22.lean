/-! ===== plain law 22: the copy of a book (written by gen22.py) ===== -/
set_option maxRecDepth 100000
def gCp (b bs : Nat) : Nat × Nat → Prop := fun v => v.1 = b ∨ v = (bs, 0) ∨ v = (bs, 1)
theorem s_copy {Q : hG → Option Nat → Prop} {o : gO} {G : hG} {b bs a : Nat} {x : Nat → Nat} {B : Bk} (h : pBr o G bs a x B) (ha : kA o G) (hb : b ≠ 0) (hbs : bs ≠ 0) (hne : b ≠ bs) (hlw : (bW B).length ≤ 63) (hln : (bN B).length ≤ 63) (hQ : ∀ o' G' q y, pBr o' G' b q y B → pBr o' G' bs a x B → gFr (gCp b bs) o G o' G' → Q G' (some q)) : wX2_copy Q a G := by
  have nn : ∀ u, ¬ gNo u := fun u z => z
  have hne' : bs ≠ b := fun z => hne z.symm
  have n0 : ∀ i, ¬ gOnly (b, i) (0, 0) := fun i => on_0 hb
  have nA0 : ∀ i j k, ¬ gAny (b, i) (bs, j) (b, k) (0, 0) := fun i j k z => by
    rcases z with z | z | z
    · exact hb (congrArg Prod.fst z).symm
    · exact hbs (congrArg Prod.fst z).symm
    · exact hb (congrArg Prod.fst z).symm
  have nAb : ∀ j k, j ≠ k → j ≠ 9 → ¬ gAny (b, k) (bs, k) (b, 9) (b, j) := fun j k h1 h2 z => by
    rcases z with z | z | z
    · exact h1 (congrArg Prod.snd z)
    · exact hne (congrArg Prod.fst z)
    · exact h2 (congrArg Prod.snd z)
  have nAs : ∀ j k, j ≠ k → ¬ gAny (b, k) (bs, k) (b, 9) (bs, j) := fun j k h1 z => by
    rcases z with z | z | z
    · exact hne' (congrArg Prod.fst z)
    · exact h1 (congrArg Prod.snd z)
    · exact hne' (congrArg Prod.fst z)
  unfold wX2_copy
  intro q hq
  have f1 : ∀ M, gFr M o G (gU o q (b, 8)) (hnw G q 2 0) := fun M => gFr.rf.nw (b, 8) hq
  have h1 := h.fr (f1 gNo) (fun i => nn _) (nn _)
  obtain ⟨⟨c1, w1, r1⟩, -, -, -, -, -, -, s6, s7⟩ := h1
  refine hlet_i ⟨hclt c1, hlet_i ⟨x 6, r1 6 (by decide), s6.1, by rw [s6.2.2.1]; decide, fun p hp => ?_⟩⟩
  obtain ⟨k6, f2⟩ := s_cloneI (u := (b, 6)) s6 hp
  obtain ⟨G2, e2⟩ : ∃ G99, G99 = hcpI (hnw (hnw G q 2 0) p 100 (hN (hnw G q 2 0) (x 6))) p 0 (hI (hnw G q 2 0) (x 6)) 0 (hN (hnw G q 2 0) (x 6)) := ⟨_, rfl⟩
  rw [← e2] at k6 f2 ⊢
  have c2 := (f2 gNo).C c1
  have z2 := (f2 gNo).S c1 w1 (nn _)
  have s7' := s7.fr (f2 gNo) (nn _)
  refine hlet_i ⟨k6.1, hclt c2, hlet_i ⟨x 7, z2.R (r1 7 (by decide)), s7'.1, by rw [s7'.2.2.1]; decide, fun p2 hp2 => ?_⟩⟩
  obtain ⟨k7, f3⟩ := s_cloneI (u := (b, 7)) s7' hp2
  obtain ⟨G3, e3⟩ : ∃ G99, G99 = hcpI (hnw G2 p2 100 (hN G2 (x 7))) p2 0 (hI G2 (x 7)) 0 (hN G2 (x 7)) := ⟨_, rfl⟩
  rw [← e3] at k7 f3 ⊢
  have F3 : ∀ M, gFr M o G _ G3 := fun M => ((f1 M).tr (f2 M)).tr (f3 M)
  have cq3 : hC G3 q = some (2, true) := (f3 gNo).C ((f2 gNo).C (show hC (hnw G q 2 0) q = some (2, true) by rw [hC_nw, if_pos rfl]))
  have wq3 : gU (gU (gU o q (b, 8)) p (b, 6)) p2 (b, 7) q = (b, 8) := ((f3 gNo).O ((f2 gNo).C (show hC (hnw G q 2 0) q = some (2, true) by rw [hC_nw, if_pos rfl]))).trans (((f2 gNo).O (show hC (hnw G q 2 0) q = some (2, true) by rw [hC_nw, if_pos rfl])).trans gU_s)
  refine hlet_i ⟨k7.1, s_Binit hb (ha.fr (F3 gNo) (nn _)) F3 hq cq3 wq3 (k6.fr (f3 gNo) (nn _)) k7 fun o4 G4 y pb F4 => ?_⟩
  have hs4 := h.fr (F4 gNo) (fun i => nn _) (nn _)
  have a4 := ha.fr (F4 gNo) (nn _)
  obtain ⟨⟨cb, wb, rb⟩, p0, p1, p2', p3, p4, p5, p6, p7⟩ := pb
  obtain ⟨⟨cs, ws, rs⟩, q0, q1, q2, q3, q4, q5, q6, q7⟩ := hs4
  obtain ⟨E, q0m, q0v⟩ := q0
  have lE := q0v.len
  refine ⟨hclt cb, hlet_i ⟨hclt cs, hlet_i ⟨y 0, rb 0 (by decide), hclt p0.c, ?_⟩⟩⟩
  rw [rs 0 (by decide)]
  refine s_putAll p0 q0m (b, 9) (fun z => by cases z) (fun z => hne (congrArg Prod.fst z).symm) (fun z => hne (congrArg Prod.fst z).symm) (on_00 hb) (on_00 hb) (on_00 hbs) (by rw [lE]; exact hlw) fun o5 G5 m0 m1 g0 => ?_
  have sb0 := g0.S cb wb (nAb 8 0 (by decide) (by decide))
  have ss0 := g0.S cs ws (nAs 8 0 (by decide))
  replace rb := fun j hj => sb0.R (rb j hj)
  replace rs := fun j hj => ss0.R (rs j hj)
  replace wb := (g0.O cb).trans wb
  replace ws := (g0.O cs).trans ws
  replace cb := g0.C cb
  replace cs := g0.C cs
  clear p0 q0m
  have p0 : pWs o5 G5 (b, 0) (y 0) (bW B) := ⟨E, m0, vInt.fr g0 (nA0 0 0 9) (q0v)⟩
  have q0 : pWs o5 G5 (bs, 0) (x 0) (bW B) := ⟨E, m1, vInt.fr g0 (nA0 0 0 9) (q0v)⟩
  replace p1 := p1.fr g0 (nAb 1 0 (by decide) (by decide)) (nA0 0 0 9)
  replace p2' := p2'.fr g0 (nAb 2 0 (by decide) (by decide)) (nA0 0 0 9)
  replace p3 := p3.fr g0 (nAb 3 0 (by decide) (by decide)) (nA0 0 0 9)
  replace p4 := p4.fr g0 (nAb 4 0 (by decide) (by decide)) (nA0 0 0 9)
  replace p5 := p5.fr g0 (nAb 5 0 (by decide) (by decide)) (nA0 0 0 9)
  replace p6 := p6.fr g0 (nAb 6 0 (by decide) (by decide))
  replace p7 := p7.fr g0 (nAb 7 0 (by decide) (by decide))
  replace q1 := q1.fr g0 (nAs 1 0 (by decide)) (nA0 0 0 9)
  replace q2 := q2.fr g0 (nAs 2 0 (by decide)) (nA0 0 0 9)
  replace q3 := q3.fr g0 (nAs 3 0 (by decide)) (nA0 0 0 9)
  replace q4 := q4.fr g0 (nAs 4 0 (by decide)) (nA0 0 0 9)
  replace q5 := q5.fr g0 (nAs 5 0 (by decide)) (nA0 0 0 9)
  replace q6 := q6.fr g0 (nAs 6 0 (by decide))
  replace q7 := q7.fr g0 (nAs 7 0 (by decide))
  have g0k := a4.fr g0 (nA0 0 0 9)
  refine ⟨hclt cb, hlet_i ⟨hclt cs, hlet_i ⟨y 1, rb 1 (by decide), hclt p1.1, ?_⟩⟩⟩
  rw [rs 1 (by decide)]
  refine s_naddAll p1 q1 (b, 9) (fun z => by cases z) (fun z => hne (congrArg Prod.fst z).symm) (fun z => hne (congrArg Prod.fst z).symm) (on_00 hb) (on_00 hb) (on_00 hbs) hln fun o6 G6 z6 m0 m1 g1 => ?_
  have sb1 := g1.S cb wb (nAb 8 1 (by decide) (by decide))
  have ss1 := g1.S cs ws (nAs 8 1 (by decide))
  replace rb := fun j hj => sb1.R (rb j hj)
  replace rs := fun j hj => ss1.R (rs j hj)
  replace wb := (g1.O cb).trans wb
  replace ws := (g1.O cs).trans ws
  replace cb := g1.C cb
  replace cs := g1.C cs
  replace p1 := m0
  replace q1 := m1
  replace p0 := p0.fr g1 (nAb 0 1 (by decide) (by decide)) (nA0 1 1 9)
  replace p2' := p2'.fr g1 (nAb 2 1 (by decide) (by decide)) (nA0 1 1 9)
  replace p3 := p3.fr g1 (nAb 3 1 (by decide) (by decide)) (nA0 1 1 9)
  replace p4 := p4.fr g1 (nAb 4 1 (by decide) (by decide)) (nA0 1 1 9)
  replace p5 := p5.fr g1 (nAb 5 1 (by decide) (by decide)) (nA0 1 1 9)
  replace p6 := p6.fr g1 (nAb 6 1 (by decide) (by decide))
  replace p7 := p7.fr g1 (nAb 7 1 (by decide) (by decide))
  replace q0 := q0.fr g1 (nAs 0 1 (by decide)) (nA0 1 1 9)
  replace q2 := q2.fr g1 (nAs 2 1 (by decide)) (nA0 1 1 9)
  replace q3 := q3.fr g1 (nAs 3 1 (by decide)) (nA0 1 1 9)
  replace q4 := q4.fr g1 (nAs 4 1 (by decide)) (nA0 1 1 9)
  replace q5 := q5.fr g1 (nAs 5 1 (by decide)) (nA0 1 1 9)
  replace q6 := q6.fr g1 (nAs 6 1 (by decide))
  replace q7 := q7.fr g1 (nAs 7 1 (by decide))
  have g1k := g0k.fr g1 (nA0 1 1 9)
  have hm2 : p2'.1 = p2'.1 := rfl
  clear hm2
  have hl2 : (bP B).length ≤ 24 := by obtain ⟨bb, LL, hh⟩ := q2; exact hh.2.2.2.2.2.2.2
  have hc2 : hC G6 (x 2) = some (3, true) := by obtain ⟨bb, LL, hh⟩ := q2; exact hh.1
  refine ⟨hclt cb, hlet_i ⟨hclt cs, hlet_i ⟨y 2, rb 2 (by decide), x 2, rs 2 (by decide), hclt p2'.1, ?_⟩⟩⟩
  refine s_take g1k p2' q2 (on_00 hb) (by decide) hl2 fun o7 G7 m0 g2 => ?_
  have sb2 := g2.S cb wb (on_ne (by decide))
  have ss2 := g2.S cs ws (on_b hne)
  replace rb := fun j hj => sb2.R (rb j hj)
  replace rs := fun j hj => ss2.R (rs j hj)
  replace wb := (g2.O cb).trans wb
  replace ws := (g2.O cs).trans ws
  replace cb := g2.C cb
  replace cs := g2.C cs
  replace p2' := m0
  replace p0 := p0.fr g2 (on_ne (by decide)) (n0 2)
  replace p1 := p1.fr g2 (on_ne (by decide)) (n0 2)
  replace p3 := p3.fr g2 (on_ne (by decide)) (n0 2)
  replace p4 := p4.fr g2 (on_ne (by decide)) (n0 2)
  replace p5 := p5.fr g2 (on_ne (by decide)) (n0 2)
  replace p6 := p6.fr g2 (on_ne (by decide))
  replace p7 := p7.fr g2 (on_ne (by decide))
  replace q0 := q0.fr g2 (on_b hne) (n0 2)
  replace q1 := q1.fr g2 (on_b hne) (n0 2)
  replace q2 := q2.fr g2 (on_b hne) (n0 2)
  replace q3 := q3.fr g2 (on_b hne) (n0 2)
  replace q4 := q4.fr g2 (on_b hne) (n0 2)
  replace q5 := q5.fr g2 (on_b hne) (n0 2)
  replace q6 := q6.fr g2 (on_b hne)
  replace q7 := q7.fr g2 (on_b hne)
  have g2k := g1k.fr g2 (n0 2)
  have hm3 : p3.1 = p3.1 := rfl
  clear hm3
  have hl3 : (bB B).length ≤ 24 := by obtain ⟨bb, LL, hh⟩ := q3; exact hh.2.2.2.2.2.2.2
  have hc3 : hC G7 (x 3) = some (3, true) := by obtain ⟨bb, LL, hh⟩ := q3; exact hh.1
  refine ⟨hclt cb, hlet_i ⟨hclt cs, hlet_i ⟨y 3, rb 3 (by decide), x 3, rs 3 (by decide), hclt p3.1, ?_⟩⟩⟩
  refine s_take g2k p3 q3 (on_00 hb) (by decide) hl3 fun o8 G8 m0 g3 => ?_
  have sb3 := g3.S cb wb (on_ne (by decide))
  have ss3 := g3.S cs ws (on_b hne)
  replace rb := fun j hj => sb3.R (rb j hj)
  replace rs := fun j hj => ss3.R (rs j hj)
  replace wb := (g3.O cb).trans wb
  replace ws := (g3.O cs).trans ws
  replace cb := g3.C cb
  replace cs := g3.C cs
  replace p3 := m0
  replace p0 := p0.fr g3 (on_ne (by decide)) (n0 3)
  replace p1 := p1.fr g3 (on_ne (by decide)) (n0 3)
  replace p2' := p2'.fr g3 (on_ne (by decide)) (n0 3)
  replace p4 := p4.fr g3 (on_ne (by decide)) (n0 3)
  replace p5 := p5.fr g3 (on_ne (by decide)) (n0 3)
  replace p6 := p6.fr g3 (on_ne (by decide))
  replace p7 := p7.fr g3 (on_ne (by decide))
  replace q0 := q0.fr g3 (on_b hne) (n0 3)
  replace q1 := q1.fr g3 (on_b hne) (n0 3)
  replace q2 := q2.fr g3 (on_b hne) (n0 3)
  replace q3 := q3.fr g3 (on_b hne) (n0 3)
  replace q4 := q4.fr g3 (on_b hne) (n0 3)
  replace q5 := q5.fr g3 (on_b hne) (n0 3)
  replace q6 := q6.fr g3 (on_b hne)
  replace q7 := q7.fr g3 (on_b hne)
  have g3k := g2k.fr g3 (n0 3)
  have hm4 : p4.1 = p4.1 := rfl
  clear hm4
  have hl4 : (bS B).length ≤ 20 := by obtain ⟨bb, LL, hh⟩ := q4; exact hh.2.2.2.2.2.2.2
  have hc4 : hC G8 (x 4) = some (3, true) := by obtain ⟨bb, LL, hh⟩ := q4; exact hh.1
  refine ⟨hclt cb, hlet_i ⟨hclt cs, hlet_i ⟨y 4, rb 4 (by decide), x 4, rs 4 (by decide), hclt p4.1, ?_⟩⟩⟩
  refine s_take g3k p4 q4 (on_00 hb) (by decide) hl4 fun o9 G9 m0 g4 => ?_
  have sb4 := g4.S cb wb (on_ne (by decide))
  have ss4 := g4.S cs ws (on_b hne)
  replace rb := fun j hj => sb4.R (rb j hj)
  replace rs := fun j hj => ss4.R (rs j hj)
  replace wb := (g4.O cb).trans wb
  replace ws := (g4.O cs).trans ws
  replace cb := g4.C cb
  replace cs := g4.C cs
  replace p4 := m0
  replace p0 := p0.fr g4 (on_ne (by decide)) (n0 4)
  replace p1 := p1.fr g4 (on_ne (by decide)) (n0 4)
  replace p2' := p2'.fr g4 (on_ne (by decide)) (n0 4)
  replace p3 := p3.fr g4 (on_ne (by decide)) (n0 4)
  replace p5 := p5.fr g4 (on_ne (by decide)) (n0 4)
  replace p6 := p6.fr g4 (on_ne (by decide))
  replace p7 := p7.fr g4 (on_ne (by decide))
  replace q0 := q0.fr g4 (on_b hne) (n0 4)
  replace q1 := q1.fr g4 (on_b hne) (n0 4)
  replace q2 := q2.fr g4 (on_b hne) (n0 4)
  replace q3 := q3.fr g4 (on_b hne) (n0 4)
  replace q4 := q4.fr g4 (on_b hne) (n0 4)
  replace q5 := q5.fr g4 (on_b hne) (n0 4)
  replace q6 := q6.fr g4 (on_b hne)
  replace q7 := q7.fr g4 (on_b hne)
  have g4k := g3k.fr g4 (n0 4)
  have hm5 : p5.1 = p5.1 := rfl
  clear hm5
  have hl5 : (bL B).length ≤ 20 := by obtain ⟨bb, LL, hh⟩ := q5; exact hh.2.2.2.2.2.2.2
  have hc5 : hC G9 (x 5) = some (3, true) := by obtain ⟨bb, LL, hh⟩ := q5; exact hh.1
  refine ⟨hclt cb, hlet_i ⟨hclt cs, hlet_i ⟨y 5, rb 5 (by decide), x 5, rs 5 (by decide), hclt p5.1, ?_⟩⟩⟩
  refine s_take g4k p5 q5 (on_00 hb) (by decide) hl5 fun o10 G10 m0 g5 => ?_
  have sb5 := g5.S cb wb (on_ne (by decide))
  have ss5 := g5.S cs ws (on_b hne)
  replace rb := fun j hj => sb5.R (rb j hj)
  replace rs := fun j hj => ss5.R (rs j hj)
  replace wb := (g5.O cb).trans wb
  replace ws := (g5.O cs).trans ws
  replace cb := g5.C cb
  replace cs := g5.C cs
  replace p5 := m0
  replace p0 := p0.fr g5 (on_ne (by decide)) (n0 5)
  replace p1 := p1.fr g5 (on_ne (by decide)) (n0 5)
  replace p2' := p2'.fr g5 (on_ne (by decide)) (n0 5)
  replace p3 := p3.fr g5 (on_ne (by decide)) (n0 5)
  replace p4 := p4.fr g5 (on_ne (by decide)) (n0 5)
  replace p6 := p6.fr g5 (on_ne (by decide))
  replace p7 := p7.fr g5 (on_ne (by decide))
  replace q0 := q0.fr g5 (on_b hne) (n0 5)
  replace q1 := q1.fr g5 (on_b hne) (n0 5)
  replace q2 := q2.fr g5 (on_b hne) (n0 5)
  replace q3 := q3.fr g5 (on_b hne) (n0 5)
  replace q4 := q4.fr g5 (on_b hne) (n0 5)
  replace q5 := q5.fr g5 (on_b hne) (n0 5)
  replace q6 := q6.fr g5 (on_b hne)
  replace q7 := q7.fr g5 (on_b hne)
  have g5k := g4k.fr g5 (n0 5)
  refine hQ o10 G10 q y ⟨⟨cb, wb, rb⟩, p0, p1, p2', p3, p4, p5, p6, p7⟩ ⟨⟨cs, ws, rs⟩, q0, q1, q2, q3, q4, q5, q6, q7⟩ ?_
  have mA : ∀ k, k = 0 ∨ k = 1 → ∀ u, gAny (b, k) (bs, k) (b, 9) u → gCp b bs u := fun k hk u z => by
    rcases z with z | z | z
    · exact Or.inl (by rw [z])
    · rcases hk with w | w <;> subst w
      · exact Or.inr (Or.inl z)
      · exact Or.inr (Or.inr z)
    · exact Or.inl (by rw [z])
  have mO : ∀ k u, gOnly (b, k) u → gCp b bs u := fun k u z => Or.inl (by rw [show u = (b, k) from z])
  exact ((((((F4 _).tr (g0.mono (mA 0 (Or.inl rfl)))).tr (g1.mono (mA 1 (Or.inr rfl)))).tr (g2.mono (mO 2))).tr (g3.mono (mO 3))).tr (g4.mono (mO 4))).tr (g5.mono (mO 5))
