/-! ===== plain law 30: Book.suggestions ===== -/
set_option maxRecDepth 100000
section P30
variable {b a : Nat} {x : Nat → Nat} {B : Bk} {l : Wd} {c : Nat}
theorem s_newPQ {Q : hG → Prop} {o : gO} {G : hG} {q cm : Nat} {u : Nat × Nat} (hq : hC G q = some (19, true)) (ho : o q = u) (hI1 : hI G q 1 = 0) (hc : hC G cm = some (23, true)) (hQ : ∀ o' G', pPQ o' G' u q [] → gFr (gOnly u) o G o' G' → Q G') : wJ35_init Q q (some cm) G := by
  unfold wJ35_init wJ35_init_2 wJ34_init_c19 wJ2_init_c19
  refine br_t (by decide) ⟨by decide, by decide, fun p hp => hlet_i ?_⟩
  rw [show Int32.toNatClampNeg (11 : Int32) = 11 from rfl]
  have pq : q ≠ p := fun z => by
    unfold hfr at hp
    rw [← z, hq] at hp
    cases hp
  have f1 : gFr (gOnly u) o G (gU o p u) (hnw G p 103 11) := gFr.rf.nw u hp
  have f2 := f1.sR (a := q) (k := 0) (x := some p) (Or.inr ho)
  have f3 := f2.sR (a := q) (k := 2) (x := some cm) (Or.inr ho)
  refine ⟨f1.C hq, hlet_i ⟨f2.C hq, hlet_i (hQ _ _ ⟨p, fun _ => ([], 0, 0), cm, ⟨f3.C hq, by rw [gU_n pq]; exact ho, ?_, ?_, pq, ⟨?_, f3.C hc⟩, ⟨?_, gU_s, Nat.zero_le _, ?_, fun j z => absurd z (Nat.not_lt_zero _)⟩, fun j _ z => absurd z (Nat.not_lt_zero _), Nat.zero_le _, ?_⟩, fun i j z => absurd z (Nat.not_lt_zero _), fun y => ⟨fun z => (by cases z), fun ⟨j, z, _⟩ => absurd z (Nat.not_lt_zero _)⟩⟩ f3)⟩⟩
  · rw [hI_sR, hI_sR, hI_nw, if_neg pq]
    exact hI1
  · rw [hR_sR, if_neg (fun z => by have := z.2; omega), hR_sR, if_pos ⟨rfl, rfl⟩]
  · rw [hR_sR, if_pos ⟨rfl, rfl⟩]
  · rw [hC_sR, hC_sR, hC_nw, if_pos rfl]
  · rw [hN_sR, hN_sR, hN_nw, if_pos rfl]
    decide
  · rw [hN_sR, hN_sR, hN_nw, if_pos rfl]
    decide
/-- new Suggested -/
theorem s_newSg {P : Nat → hG → Prop} {o : gO} {G : hG} {w q : Nat} {e : It} (hq : hC G q = some (6, true)) (ho : o q = (0, 0)) (hw : pW o G w e.1) (h1 : e.2.1 < 2 ^ 30) (h2 : e.2.2 < 2 ^ 30) (hQ : ∀ G', pSg o G' q e → (∀ o0 G0 M, gFr M o0 G0 o G → hC G0 q = none → gFr M o0 G0 o G') → P q G') : wX9_init (fun G' => P q G') q w (nI e.2.1) (nI e.2.2) G := by
  unfold wX9_init
  have hqw : w ≠ q := fun z => by
    have := hw.1
    rw [z, hq] at this
    cases this
  refine ⟨hq, hlet_i ⟨hq, hlet_i ⟨hq, hlet_i (hQ _ ⟨hq, ho, ⟨w, ?_, ?_⟩, ?_, ?_, h1, h2⟩ fun o0 G0 M f z => ((f.sR (Or.inl z)).sI (Or.inl z)).sI (Or.inl z))⟩⟩⟩
  · rw [hR_sI, hR_sI, hR_sR, if_pos ⟨rfl, rfl⟩]
  · obtain ⟨x1, x2, x3, x4, x5⟩ := hw
    refine ⟨x1, x2, x3, ?_, x5⟩
    rw [hI_sI, if_neg (fun z => hqw z.1), hI_sI, if_neg (fun z => hqw z.1)]
    exact x4
  · rw [hI_sI, if_neg (fun z => by cases z.2), hI_sI, if_pos ⟨rfl, rfl⟩]
  · rw [hI_sI, if_pos ⟨rfl, rfl⟩]
theorem s_sug70 {Q : hG → Option Nat → Prop} {r : Nat → Nat → Nat → Option Nat → hG → Prop} {o : gO} {G : hG} {t q it y d : Nat} {w : Wd} {T : List It} (hb : b ≠ 0) (hg : gB c B) (h : pBr o G b a x B) (hy : pW o G y w) (hp : pPQ o G (0, 8) q T) (hT : T.length < 20) (hw : w ∈ keys B) (hn : ∀ e, e ∈ T → e.1 ≠ w) (hd : d < 100) (hQ : ∀ o' G', pPQ o' G' (0, 8) q (if bE B 0 < nI d then T else insI (w, cnt B w, d) T) → gFr (gOnly (0, 8)) o G o' G' → r a t q (some it) G') : wX2_suggestions_b70 Q r a t q it y (nI d) G := by
  have hh := h
  obtain ⟨⟨h1, h2, h3⟩, -, -, -, -, -, -, -, p7⟩ := h
  obtain ⟨n, n1, n2⟩ := hg.2.2.2.2.2.2.1
  have e0 : Int32.toNatClampNeg (0 : Int32) = 0 := rfl
  have u0 : ((0, 8) : Nat × Nat) ≠ (0, 0) := by decide
  unfold wX2_suggestions_b70
  refine ⟨hclt h1, hlet_i ⟨x 7, h3 7 (by decide), hclt p7.1, vp_in_nI (n := 0) (by rw [p7.2.2.1]; decide) (by rw [p7.2.2.1]; decide), ?_⟩⟩
  rw [e0, p7.2.2.2 0 (by decide)]
  refine br_c (fun e => ?_) (fun e => ?_)
  · unfold wX2_suggestions_b120 wX2_suggestions_b121
    rw [if_pos e] at hQ
    exact hQ o G hp gFr.rf
  · rw [if_neg e] at hQ
    intro q8 hq8
    refine hlet_e fun G9 e9 => ?_
    have f9 : ∀ M, gFr M o G (gU o q8 (0, 0)) G9 := fun M => by rw [e9]; exact gFr.rf.nw _ hq8
    have b9 := hh.fr (f9 gNo) (fun _ z => z) (fun z => z)
    have y9 := hy.fr (f9 gNo) (fun z => z)
    have c9 : hC G9 q8 = some (6, true) := by rw [e9, hC_nw, if_pos rfl]
    refine ⟨hclt b9.1.1, hlet_i ⟨x 0, b9.1.2.2 0 (by decide), ?_⟩⟩
    have c0 := b9.2.1
    obtain ⟨E0, c0, -⟩ := c0
    have hcn : cnt B w < 1000 := by
      unfold cnt
      obtain ⟨m, m1, m2⟩ := lkA_mem (V := bW B) hw
      rw [m1]
      have := hg.2.1 _ m2
      show m < 1000
      omega
    refine ⟨hclt c0.c, s_wget b9 y9 (fun z => absurd hw z) fun z _ hz => ⟨fun y' ey => by cases ey; exact hz.cl, z, rfl, hz.cl, ?_⟩⟩
    have hzc := hz.cl
    obtain ⟨bb, z1, z2, z3⟩ := hz
    unfold wJ20_intValue
    refine ⟨hzc, ?_⟩
    rw [z3]
    refine s_newSg (P := fun q8 G30 => hcl G30 q 19 ∧ (wJ35_add (fun G34 z35 => (z35 = 0 → (wX2_suggestions_b120 Q r a t q it G34)) ∧ (¬ z35 = 0 → (wX2_suggestions_b121 Q r a t q it (1 : Int32) G34))) q (some q8) G30)) (e := (w, cnt B w, d)) c9 gU_s y9 (by show cnt B w < 2 ^ 30; omega) (by show d < 2 ^ 30; omega) fun G' g1 g2 => ?_
    have fG : ∀ M, gFr M o G (gU o q8 (0, 0)) G' := fun M => g2 o G M (f9 M) hq8
    have p9 := hp.fr (fG gNo) (fun z => z) (fun z => z)
    refine ⟨hclt p9.cl, s_qadd u0 p9 g1 (fun z => hn _ z rfl) hT fun o' G'' k1 k2 => br_f (by decide) ?_⟩
    unfold wX2_suggestions_b121
    exact hQ o' G'' (k1 _ insI_len fun y => insI_mem) ((fG _).tr k2)
theorem s_sugL {Q : hG → Option Nat → Prop} {t q it : Nat} (hb : b ≠ 0) (hg : gB c B) : ∀ (n : Nat) (K2 K1 : List Wd) (T : List It) (o : gO) (G : hG), K2.length < n → pBi o G b a x B 9 K1 K2 it → kS o G → pW o G t l → pPQ o G (0, 8) q T → (∀ e, e ∈ T → e.1 ∈ K1) → T.length ≤ K1.length → (∀ o' G', pBr o' G' b a x B → pPQ o' G' (0, 8) q (K2.foldl (sgS B l) T) → gFr tM o G o' G' → Q G' (some q)) → wX2_suggestions_l28 Q n a t q (some it) G := by
  intro n
  induction n with
  | zero =>
    intro K2 K1 T o G hn
    omega
  | succ n ih =>
    intro K2 K1 T o G hn h hk ht hp hT1 hT2 hQ
    show wX2_suggestions_b28 Q (wX2_suggestions_l28 Q n) _ _ _ _ _
    unfold wX2_suggestions_b28
    refine ⟨it, rfl, hclt h.ic, s_biHas h (fun e => br_t rfl ?_) (fun e => br_f (by decide) ⟨hclt h.ic, ?_⟩)⟩
    · rw [e] at hQ
      exact hQ o G h.1 hp gFr.rf
    · cases K2 with
      | nil => exact absurd rfl e
      | cons w K2 =>
        have hkl : (keys B).length ≤ 20 := by
          unfold keys
          rw [List.length_map]
          exact hg.1
        have hkk := h.2
        obtain ⟨-, E1, E2, -, -, -, hkk⟩ := hkk
        have hpw := h.pw
        have hwk : w ∈ keys B := by rw [← hkk]; simp
        have hlen : K1.length < 20 := by
          rw [← hkk, List.length_append, List.length_cons] at hkl
          omega
        have hnw : ∀ e, e ∈ T → e.1 ≠ w := fun e he z => by
          have := (List.pairwise_append.mp hpw).2.2 _ (hT1 e he) w (List.mem_cons_self ..)
          rw [z, wlt_irr] at this
          cases this
        refine s_biNext (by decide) h hb fun G1 y g1 g2 g3 => ⟨fun y' ey => by cases ey; exact hclt g3.1, y, rfl, hclt g1.1.1.1, ?_⟩
        have n0 : ¬ gOnly (0, 9) (0, 0) := fun z => by cases z
        have n8 : ¬ gOnly (0, 9) (0, 8) := fun z => by cases z
        have m0 : ¬ gOnly (0, 8) (0, 0) := fun z => by cases z
        have m9 : ¬ gOnly (0, 8) (0, 9) := fun z => by cases z
        have mb : ∀ i, ¬ gOnly (0, 8) (b, i) := fun i z => hb (congrArg Prod.fst z)
        have k1 := hk.fr g2 n0
        have t1 := ht.fr g2 n0
        have p1 := hp.fr g2 n8 n0
        have fin : ∀ o2 G2, gFr gNo o G1 o2 G2 → wX2_suggestions_b70 Q (wX2_suggestions_l28 Q n) a t q it y (nI (sgD B l w)) G2 := by
          intro o2 G2 f2
          have h2 := g1.f0 f2
          have k2 := k1.fr f2 (fun z => z)
          have t2 := t1.fr f2 (fun z => z)
          have p2 := p1.fr f2 (fun z => z) (fun z => z)
          have y2 := g3.fr f2 (fun z => z)
          have hd : sgD B l w < 100 := by
            unfold sgD
            split
            · decide
            · have := dist_le (sk := bK B) (l := l) (m := w) ht.2.2.2.2 g3.2.2.2.2
              omega
          refine s_sug70 hb hg h2.1 y2 p2 (by omega) hwk hnw hd fun o3 G3 q1 q2 => ?_
          have h3 := h2.fr q2 mb m9 m0
          have : ∀ e, e ∈ sgS B l T w → e.1 ∈ K1 ++ [w] := fun e he => by
            rcases sgS_mem he with z | z
            · rw [z]
              simp
            · exact List.mem_append_left _ (hT1 e z)
          refine ih K2 (K1 ++ [w]) (sgS B l T w) o3 G3 (by rw [List.length_cons] at hn; omega) h3 (k2.fr q2 m0) (t2.fr q2 m0) q1 this ?_ fun o4 G4 r1 r2 r3 => hQ o4 G4 r1 r2 ((((g2.t0 (by decide)).tr (f2.mono fun _ z => z.elim)).tr (q2.t0 (by decide))).tr r3)
          rw [List.length_append, List.length_singleton]
          unfold sgS
          split
          · omega
          · rw [insI_len]
            omega
        refine s_isBanned g1.1 t1 g3 ?_
        by_cases hbn : bnd B l w = true
        · rw [if_pos hbn]
          refine br_f (by decide) ?_
          have := fin o G1 gFr.rf
          unfold sgD at this
          rw [if_pos hbn] at this
          exact this
        · rw [if_neg hbn]
          refine br_t rfl ⟨hclt g1.1.1.1, s_bdist g1.1 k1 t1 g3 fun o2 G2 f2 => ?_⟩
          have := fin o2 G2 (f2 _)
          unfold sgD at this
          rw [if_neg hbn] at this
          exact this
theorem s_suggestions {Q : hG → Option Nat → Prop} {o : gO} {G : hG} {t : Nat} (hb : b ≠ 0) (hg : gB c B) (h : pBr o G b a x B) (hk : kS o G) (ht : pW o G t l) (hQ : ∀ o' G' q, pBr o' G' b a x B → pPQ o' G' (0, 8) q (sgT B l) → gFr (qM b) o G o' G' → Q G' (some q)) : wX2_suggestions Q a t G := by
  unfold wX2_suggestions
  intro q hq
  refine hlet_e fun G2 e2 => ?_
  have f2 : ∀ M, gFr M o G (gU o q (0, 8)) G2 := fun M => by rw [e2]; exact gFr.rf.nw _ hq
  have c2 : hC G2 q = some (19, true) := by rw [e2, hC_nw, if_pos rfl]
  have i2 : hI G2 q 1 = 0 := by rw [e2, hI_nw, if_pos rfl]
  intro p hp
  have pq : q ≠ p := fun z => by
    unfold hfr at hp
    rw [← z, c2] at hp
    cases hp
  refine hlet_e fun G7 e7 => ?_
  have f7 : ∀ M, gFr M o G (gU (gU o q (0, 8)) p (0, 8)) G7 := fun M => by rw [e7]; exact (f2 M).nw _ hp
  have c7 : hC G7 q = some (19, true) := by rw [e7, hC_nw, if_neg pq]; exact c2
  have d7 : hC G7 p = some (23, true) := by rw [e7, hC_nw, if_pos rfl]
  have i7 : hI G7 q 1 = 0 := by rw [e7, hI_nw, if_neg pq]; exact i2
  have o7 : gU (gU o q (0, 8)) p (0, 8) q = (0, 8) := by rw [gU_n pq, gU_s]
  unfold wX6_init
  refine s_newPQ c7 o7 i7 d7 fun o3 G3 g1 g2 => ?_
  have m0 : ¬ gOnly (0, 8) (0, 0) := fun z => by cases z
  have mb : ∀ i, ¬ gOnly (0, 8) (b, i) := fun i z => hb (congrArg Prod.fst z)
  have nb : ∀ i, ¬ gOnly (b, 0) (0, i) := fun i z => hb (congrArg Prod.fst z).symm
  have h3 := (h.fr (f7 gNo) (fun _ z => z) (fun z => z)).fr g2 mb m0
  have k3 := (hk.fr (f7 gNo) (fun z => z)).fr g2 m0
  have t3 := (ht.fr (f7 gNo) (fun z => z)).fr g2 m0
  refine ⟨hclt h3.1.1, hlet_i ⟨x 0, h3.1.2.2 0 (by decide), ?_⟩⟩
  have c0 := h3.2.1
  obtain ⟨E0, c0, -⟩ := c0
  refine ⟨hclt c0.c, s_biGo 9 (Q := fun G30 z31 => wX2_suggestions_l28 Q 21 a t q z31 G30) h3 hb fun o4 G4 it r1 r2 _ => ?_⟩
  refine s_sugL hb hg 21 (keys B) [] [] o4 G4 ?_ r1 (k3.fr r2 (nb 0)) (t3.fr r2 (nb 0)) (g1.fr r2 (nb 8) (nb 0)) (fun e z => by cases z) (Nat.le_refl _) fun o5 G5 v1 v2 v3 => hQ o5 G5 q v1 v2 ((((f7 _).tr ((g2.t0 (by decide)).t)).tr r2.q).tr v3.t)
  unfold keys
  rw [List.length_map]
  have := hg.1
  omega
end P30
