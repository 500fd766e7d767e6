/-! ===== plain law 38: estrange, correct, takeBack, allow ===== -/
set_option maxRecDepth 100000
section P38
variable {b a : Nat} {x : Nat → Nat} {B : Bk} {l m : Wd} {c : Nat} {o : gO} {G : hG}
/-- the strange word at place k, with so many times -/
def esF (B : Bk) (t : Wd) (S : List Mt) (k times : Nat) : Bk := if nI times = bE B 2 ∧ (bN B).length < 10 then oN (oS B (S.eraseIdx k)) (insS t (bN B)) else oS B S
def esg (B : Bk) (t : Wd) : Bk := match plc (bS B) t t with
  | none => esF B t (kad 20 (bS B) (t, t, 1)) ((kad 20 (bS B) (t, t, 1)).length - 1) 1
  | some k => esF B t ((bS B).set k (t, t, ((bS B).getD k d0).2.2 + 1)) k (((bS B).getD k d0).2.2 + 1)
theorem kad_len {most : Nat} {V : List Mt} {e : Mt} : 1 ≤ (kad most V e).length := by
  unfold kad
  rw [List.length_append]
  exact Nat.le_add_left _ _
theorem s_es102 {Q : hG → Prop} {t k times : Nat} {S : List Mt} (hb : b ≠ 0) (hg : (bN B).length ≤ 10) (h : pBr o G b a x (oS B S)) (ht : pW o G t l) (hk : k < S.length) (hQ : ∀ o' G', pBr o' G' b a x (esF B l S k times) → gFr (qM b) o G o' G' → Q G') : wX2_estrange_b102 Q a t (nI k) (nI times) G := by
  have hh := h
  obtain ⟨⟨h1, h2, h3⟩, -, p1, -, -, p4, -, -, p7⟩ := h
  have p1' : pNs o G (b, 1) (x 1) (bN B) := p1
  have p7' : pIA o G (b, 7) (x 7) 3 (bE B) := p7
  unfold wX2_estrange_b102 wX2_estrange_b150
  unfold esF at hQ
  refine ⟨hclt h1, hlet_i ⟨x 7, h3 7 (by decide), hclt p7'.1, vp_in_nI (n := 2) (by rw [p7'.2.2.1]; decide) (by rw [p7'.2.2.1]; decide), ?_⟩⟩
  rw [show Int32.toNatClampNeg (2 : Int32) = 2 from rfl, p7'.2.2.2 2 (by decide)]
  refine br_c (fun e => ⟨hclt h1, hlet_i ⟨x 1, h3 1 (by decide), hclt p1'.1, s_nsize p1' (br_c (fun z => ?_) (fun z => ⟨hclt h1, hlet_i ⟨x 1, h3 1 (by decide), hclt p1'.1, ?_⟩⟩))⟩⟩) (fun e => ?_)
  · have := (nI_leI (a := 10) (by omega) (by omega)).mp z
    rw [if_neg (by omega)] at hQ
    exact hQ o G hh gFr.rf
  · have z2 : (bN B).length < 10 := Nat.not_le.mp fun y => z ((nI_leI (a := 10) (by omega) (by omega)).mpr y)
    rw [if_pos ⟨e, z2⟩] at hQ
    refine s_nadd p1' (on_00 hb) (by omega) ht fun o2 G2 k1 k2 => ?_
    have b2 := hh.put1 hb k2 k1
    have c2 := b2.1
    have p42 : pKt o2 G2 (b, 4) (x 4) 20 S := b2.2.2.2.2.2.1
    obtain ⟨bl, p42⟩ := p42
    have q2 := pKl.at p42
    refine ⟨hclt c2.1, hlet_i ⟨x 4, c2.2.2 4 (by decide), hclt q2.1, hlet_i ⟨bl, q2.2.1, hclt q2.2.2, s_klrem p42 (on_00 hb) hk fun G3 y k3 k4 k5 => ⟨fun z ez => (by cases ez; exact k5), ?_⟩⟩⟩⟩
    exact hQ o2 G3 (b2.put4 hb k4 k3.kt) (k2.q.tr k4.q)
  · rw [if_neg (fun z => e z.1)] at hQ
    exact hQ o G hh gFr.rf
theorem s_estrange {Q : hG → Prop} {t : Nat} (hb : b ≠ 0) (hg : (bN B).length ≤ 10) (h : pBr o G b a x B) (ht : pW o G t l) (hQ : ∀ o' G', pBr o' G' b a x (esg B l) → gFr (qM b) o G o' G' → Q G') : wX2_estrange Q a t G := by
  have hh := h
  obtain ⟨⟨h1, h2, h3⟩, -, -, -, -, p4, -, -, -⟩ := h
  have m4 := p4.mem
  unfold wX2_estrange
  unfold esg at hQ
  refine ⟨hclt h1, hlet_i ⟨x 4, h3 4 (by decide), s_placeOf p4 ht ht ?_⟩⟩
  cases e : plc (bS B) l l with
  | none =>
    rw [e] at hQ
    refine br_t rfl ?_
    unfold wX2_estrange_b35
    refine br_t rfl ⟨hclt h1, hlet_i ?_⟩
    rw [h3 4 (by decide)]
    refine s_newM (e := (l, l, 1)) (P := _) ht ht fun q o1 G1 _ q1 f1 => ⟨x 4, rfl, ?_⟩
    have b1 := hh.fr (f1 gNo) (fun _ z => z) (fun z => z)
    have p41 := b1.2.2.2.2.2.1
    refine ⟨hclt p41.mem.2.2, s_kadd p41 (on_00 hb) (by decide) q1 fun o2 G2 k1 k2 => ?_⟩
    have b2 : pBr o2 G2 b a x (oS B (kad 20 (bS B) (l, l, 1))) := b1.put4 hb k2 k1
    have c2 := b2.1
    have p42 : pKt o2 G2 (b, 4) (x 4) 20 (kad 20 (bS B) (l, l, 1)) := k1
    have m42 := p42.mem
    refine ⟨hclt c2.1, hlet_i ⟨x 4, c2.2.2 4 (by decide), hclt m42.2.2, s_ksize p42 ?_⟩⟩
    have kl := kad_len (most := 20) (V := bS B) (e := (l, l, 1))
    rw [show (1 : Int32) = nI 1 from rfl, nI_sub kl]
    have t2 := (ht.fr (f1 gNo) (fun z => z)).fr k2 (on_0 hb)
    exact s_es102 hb hg b2 t2 (by omega) fun o3 G3 r1 r2 => hQ o3 G3 r1 (((f1 _).tr k2.q).tr r2)
  | some k =>
    rw [e] at hQ
    obtain ⟨kk, k3, k4⟩ := plc_lt e
    obtain ⟨bl, p4l⟩ := p4
    have q2 := pKl.at p4l
    refine br_f (ix_nm (by omega)) ⟨hclt h1, hlet_i ⟨x 4, h3 4 (by decide), hclt m4.2.2, s_kget (pKl.kt p4l) kk fun y hy => ⟨fun z ez => (by cases ez; exact hclt hy.1), y, rfl, hclt hy.1, ?_⟩⟩⟩
    unfold wX2_estrange_b35
    refine br_f (ix_nm (by omega)) ⟨hclt h1, hlet_i ⟨x 4, h3 4 (by decide), hclt m4.2.2, hlet_i ⟨hclt h1, hlet_i ⟨x 4, h3 4 (by decide), hclt m4.2.2, s_kget (pKl.kt p4l) kk fun y2 hy2 => ⟨fun z ez => (by cases ez; exact hclt hy2.1), y2, rfl, hclt hy2.1, ?_⟩⟩⟩⟩⟩
    rw [hy.2.2.2.2, show nI (bS B)[k].2.2 + (1 : Int32) = nI ((bS B)[k].2.2 + 1) from nI_1 _, q2.2.1]
    refine s_with hy2 fun q o4 G4 _ q4 f4 => ⟨bl, rfl, hclt ((f4 gNo).C q2.2.2), ?_⟩
    rw [k3, k4] at q4
    refine s_klset (pKl.fr p4l (f4 gNo) (fun z => z) (fun z => z)) (on_00 hb) kk q4 fun G5 y5 k5 k6 k7 => ⟨fun z ez => (by cases ez; exact k7), ?_⟩
    have b4 := hh.fr (f4 gNo) (fun _ z => z) (fun z => z)
    have t5 := (ht.fr (f4 gNo) (fun z => z)).fr k6 (on_0 hb)
    replace hQ : ∀ o' G', pBr o' G' b a x (esF B l ((bS B).set k (l, l, (bS B)[k].2.2 + 1)) k ((bS B)[k].2.2 + 1)) → gFr (qM b) o G o' G' → Q G' := by
      rw [← getD_at kk]
      exact hQ
    exact s_es102 hb hg (b4.put4 hb k6 k5.kt) t5 (by rw [List.length_set]; exact kk) fun o6 G6 r1 r2 => hQ o6 G6 r1 (((f4 _).tr k6.q).tr r2)
/-- Book.correct -/
def crt (B : Bk) (t : Wd) : Bk × Wd :=
  if cse B t = 0 then (oW B (insA t (min 999 (cnt B t + 1)) (bW B)), t)
  else if cse B t = 2 then (match lrn B t with | none => (B, t) | some e => (crd B t e.2.1, e.2.1))
  else if cse B t = 3 then (match sgT B t with | [] => (B, t) | e :: _ => (crd B t e.1, e.1))
  else if cse B t = 4 then (esg B t, t) else (B, t)
theorem cse_le {t : Wd} : cse B t ≤ 4 := by
  unfold cse
  repeat' split
  all_goals decide
theorem s_bcorrect {Q : hG → Option Nat → Prop} {t : Nat} (hb : b ≠ 0) (hg : gB c B) (h : pBr o G b a x B) (hk : kS o G) (hi : kIc o G) (ht : pW o G t l) (hQ : ∀ o' G' y, pBr o' G' b a x (crt B l).1 → pW o' G' y (crt B l).2 → gFr (qM b) o G o' G' → Q G' (some y)) : wX2_correct Q a t G := by
  have hp99 : ∀ e, e ∈ bP B → e.2.2 ≤ 99 := fun e he => (hg.2.2.2.1 e he).2
  unfold wX2_correct
  refine ⟨hclt h.1.1, s_bcaseOf hb hg h hk ht fun o1 G1 b1 f1 => ?_⟩
  have m0 := qM_0 hb
  have k1 := hk.fr f1 m0
  have i1 := hi.fr f1 m0
  have t1 := ht.fr f1 m0
  have hh := b1
  obtain ⟨⟨h1, h2, h3⟩, -⟩ := b1
  have cv := cse_le (B := B) (t := l)
  unfold crt at hQ
  rcases (show cse B l = 0 ∨ cse B l = 1 ∨ cse B l = 2 ∨ cse B l = 3 ∨ cse B l = 4 by omega) with e | e | e | e | e
  all_goals rw [e] at hQ ⊢
  all_goals refine ⟨fun z => ?_, fun z => ?_, fun z => ?_, fun z => ?_, fun z => ?_, fun z => ?_⟩
  all_goals first
    | exact absurd z (by decide)
    | skip
  · refine ⟨hclt h1, hlet_i ⟨hclt h1, s_countOf hh t1 ?_⟩⟩
    have hcn : cnt B l < 1000 := by
      unfold cnt
      cases ec : lkA l (bW B) with
      | none => decide
      | some n =>
        have : l ∈ (bW B).map Prod.fst := by
          apply Classical.byContradiction
          intro z
          rw [lkA_none (fun e he c => z (by rw [← c]; exact List.mem_map_of_mem he))] at ec
          cases ec
        obtain ⟨n', h5, h6⟩ := lkA_mem this
        rw [ec] at h5
        cases h5
        have := hg.2.1 _ h6
        show n < 1000
        omega
    rw [show nI (cnt B l) + (1 : Int32) = nI (cnt B l + 1) from nI_1 _, show (999 : Int32) = nI 999 from rfl, hMn_nI (by omega) (by omega), h3 0 (by decide)]
    refine s_valueOf i1 (by omega) fun o2 G2 y y1 y2 => ⟨x 0, rfl, ?_⟩
    have b2 := hh.fr (y2 gNo) (fun _ z => z) (fun z => z)
    have hl := hg.1
    refine ⟨b2.c0, s_wput b2.2.1 (on_00 hb) (by omega) (t1.fr (y2 gNo) (fun z => z)) y1 fun o3 G3 r k3 k4 k5 => ⟨fun y' ey => ?_, ?_⟩⟩
    · rcases k5 with ⟨r1, -⟩ | ⟨z, r1, r2⟩
      · rw [r1] at ey
        cases ey
      · rw [r1] at ey
        cases ey
        exact r2.cl
    · exact hQ o3 G3 t (b2.put0 hb k4 k3) ((t1.fr (y2 gNo) (fun z => z)).fr k4 (on_0 hb)) ((f1.tr (y2 _)).tr k4.q)
  · exact hQ o1 G1 t hh t1 f1
  · refine ⟨hclt h1, s_learned hg hh t1 fun r hr => ?_⟩
    rcases hr with ⟨r1, r2⟩ | ⟨y, f, r1, r2, r3, r4⟩
    · exfalso
      unfold cse at e
      rw [r2] at e
      revert e
      repeat' split
      all_goals first | decide | (rename_i z; exact absurd z (by decide))
    · rw [r1]
      rw [r2] at hQ
      obtain ⟨y1, y2, y3, ⟨oa, y5, y6⟩, y7⟩ := r3
      refine ⟨y, rfl, hclt y1, hlet_i ?_⟩
      rw [y5]
      refine ⟨fun z ez => (by cases ez; exact hclt y6.1), oa, rfl, hclt h1, s_corrected hb hp99 hh t1 y6 fun o2 G2 k2 f2 => ?_⟩
      exact hQ o2 G2 oa k2 (y6.fr f2 m0) (f1.tr f2)
  · refine ⟨hclt h1, s_suggestions hb hg hh k1 t1 fun o2 G2 q g1 g2 g3 => ⟨q, rfl, hclt g2.cl, ?_⟩⟩
    have hs : (sgT B l).Pairwise (fun p q => iLb p q = true) := sgT_pw _ _ (wlt_nd hh.nd) (fun _ z => by cases z) List.Pairwise.nil
    cases es : sgT B l with
    | nil =>
      exfalso
      unfold cse at e
      rw [es] at e
      revert e
      repeat' split
      all_goals first | decide | (rename_i z; exact absurd rfl z)
    | cons s0 T =>
      rw [es] at hQ g2 hs
      refine s_qpeek g2 hs fun s ps => ?_
      obtain ⟨y1, y2, ⟨w, y3, y4⟩, -⟩ := ps
      refine ⟨fun y hy => (by cases hy; exact hclt y1), s, rfl, hclt y1, hlet_i ⟨w, y3, hclt g1.1.1, ?_⟩⟩
      refine s_corrected hb hp99 g1 (t1.fr g3 m0) y4 fun o3 G3 k3 f3 => ?_
      exact hQ o3 G3 w k3 (y4.fr f3 m0) ((f1.tr g3).tr f3)
  · refine ⟨hclt h1, s_estrange hb hg.2.2.1 hh t1 fun o2 G2 k2 f2 => ?_⟩
    exact hQ o2 G2 t k2 (t1.fr f2 m0) (f1.tr f2)
def alw (B : Bk) (t w : Wd) : Bk × Nat := match plc (bB B) t w with
  | none => (B, 0)
  | some k => (oB B ((bB B).eraseIdx k), 1)
theorem s_ballow {Q : hG → Int32 → Prop} {t v : Nat} (hb : b ≠ 0) (h : pBr o G b a x B) (ht : pW o G t l) (hv : pW o G v m) (hQ : ∀ o' G', pBr o' G' b a x (alw B l m).1 → gFr (qM b) o G o' G' → Q G' (nI (alw B l m).2)) : wX2_allow Q a t v G := by
  have hh := h
  obtain ⟨⟨h1, h2, h3⟩, -, -, -, p3, -⟩ := h
  have m3 := p3.mem
  unfold wX2_allow wX2_allow_b31 wX2_allow_b41
  unfold alw at hQ
  refine ⟨hclt h1, hlet_i ⟨x 3, h3 3 (by decide), s_placeOf p3 ht hv ?_⟩⟩
  cases e : plc (bB B) l m with
  | none =>
    rw [e] at hQ
    exact br_t rfl (br_t rfl (hQ o G hh gFr.rf))
  | some k =>
    rw [e] at hQ
    obtain ⟨kk, k3, k4⟩ := plc_lt e
    obtain ⟨bl, p3l⟩ := p3
    have q2 := pKl.at p3l
    refine br_f (ix_nm (by omega)) ⟨hclt h1, hlet_i ⟨x 3, h3 3 (by decide), hclt m3.2.2, hlet_i ⟨bl, q2.2.1, hclt q2.2.2, s_klrem p3l (on_00 hb) kk fun G3 y k3 k4 k5 => ⟨fun z ez => (by cases ez; exact k5), ?_⟩⟩⟩⟩
    exact br_f (ix_nm (by omega)) (hQ o G3 (hh.put3 hb k4 k3.kt) k4.q)
end P38
