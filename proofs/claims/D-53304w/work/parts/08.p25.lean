/-! ===== plain law 25: the class's distance ===== -/
set_option maxRecDepth 100000
def eqLa (G G' : hG) (la : Nat) : Prop := hC G' = hC G ∧ hN G' = hN G ∧ hJ G' = hJ G ∧ hR G' = hR G ∧ hK G' = hK G ∧ ∀ b j, b ≠ la → hI G' b j = hI G b j
theorem eqLa.rf {G : hG} {la : Nat} : eqLa G G la := ⟨rfl, rfl, rfl, rfl, rfl, fun _ _ _ => rfl⟩
theorem eqLa.set {G G' : hG} {la k : Nat} {x : Int32} (h : eqLa G G' la) : eqLa G (hsI G' la k x) la := by
  obtain ⟨h1, h2, h3, h4, h5, h6⟩ := h
  exact ⟨h1, h2, h3, h4, h5, fun b j hb => by rw [hI_sI, if_neg (fun z => hb z.1)]; exact h6 b j hb⟩
theorem eqLa.fr {M : Nat × Nat → Prop} {o0 o : gO} {G0 G G' : hG} {la : Nat} (h : eqLa G G' la) (hf : gFr M o0 G0 o G) (hl : hC G0 la = none) : gFr M o0 G0 o G' := by
  obtain ⟨h1, h2, h3, h4, h5, h6⟩ := h
  exact hf.sm (Or.inl hl) h1 h5 fun b hb => ⟨by rw [h2], funext fun j => h6 b j hb, by rw [h3], by rw [h4]⟩
section P25
variable {o : gO} {G : hG} {w ta wa sa la : Nat} {l m : Wd} {sk : Nat → Int32}
theorem pWy.eq {G' : hG} (h : pWy o G w ta wa sa la l m sk) (he : eqLa G G' la) : pWy o G' w ta wa sa la l m sk := by
  obtain ⟨e1, e2, e3, e4, e5, e6⟩ := he
  obtain ⟨c, r0, r1, r2, r3, pt, pw, ⟨s1, s2, s3⟩, l1, l2, ne, hk⟩ := h
  have wl : ∀ {x : Nat} {y : Wd}, pW o G x y → pW o G' x y := fun {x y} hx => by
    obtain ⟨x1, x2, x3, x4, x5⟩ := hx
    have : x ≠ la := fun z => by rw [z, l1] at x1; cases x1
    exact ⟨by rw [e1]; exact x1, x2, by rw [e3]; exact x3, by rw [e6 x 1 this]; exact x4, x5⟩
  refine ⟨by rw [e1]; exact c, by rw [e4]; exact r0, by rw [e4]; exact r1, by rw [e4]; exact r2, by rw [e4]; exact r3, wl pt, wl pw, ⟨by rw [e1]; exact s1, by rw [e2]; exact s2, fun k hk => by rw [e6 sa k ne]; exact s3 k hk⟩, by rw [e1]; exact l1, by rw [e2]; exact l2, ne, fun t ht => ?_⟩
  obtain ⟨h1, h2, h3, ⟨r, h4, h5, h6, h7, h8⟩, h9, h10⟩ := hk t ht
  have z1 : hK G t.1 ≠ la := fun z => by rw [z, l1] at h1; cases h1
  have z2 : r ≠ la := fun z => by rw [z, l1] at h5; cases h5
  rw [e5]
  exact ⟨by rw [e1]; exact h1, h2, by rw [e6 _ _ z1]; exact h3, ⟨r, by rw [e4]; exact h4, by rw [e1]; exact h5, h6, by rw [e2]; exact h7, fun k hk9 => by rw [e6 _ _ z2]; exact h8 k hk9⟩, h9, h10⟩
theorem s_wlen {Q : hG → Int32 → Prop} {a : Nat} {l : Wd} (h : pW o G a l) (hQ : Q G (nI l.length)) : wX5_length Q a G := by
  unfold wX5_length
  refine ⟨hclt h.1, ?_⟩
  rw [h.2.2.2.1]
  exact hQ
/-- the table is right before the cell (i, j) -/
def tOk (G : hG) (la : Nat) (sk : Nat → Int32) (l m : Wd) (i j : Nat) : Prop := ∀ i' j', j' ≤ m.length → (i' < i ∨ (i' = i ∧ j' < j)) → hI G la (9 * i' + j') = nI (dD sk l m i' j')
theorem s_dist17 {Q : hG → Int32 → Prop} {r2 : Nat → Int32 → hG → Prop} {i : Nat} (hi : i ≤ l.length) :
    ∀ (d j : Nat) (G : hG), pWy o G w ta wa sa la l m sk → j + d = m.length + 1 → tOk G la sk l m i j → (∀ G', eqLa G G' la → tOk G' la sk l m (i + 1) 0 → r2 w (nI (i + 1)) G') → ∃ n, wX7_distance_l17 Q r2 n w (nI i) (nI j) G := by
  intro d
  induction d with
  | zero =>
    intro j G h hj ht hr
    obtain ⟨c, r0, r1, r2', r3, pt, pw, s, l1, l2, ne, hk⟩ := h
    have hm8 := pw.2.2.2.2.2.1
    have hl8 := pt.2.2.2.2.2.1
    refine ⟨1, ?_⟩
    show wX7_distance_b17 Q r2 _ _ _ _ _
    unfold wX7_distance_b17
    refine ⟨hclt c, hlet_i ⟨wa, r1, hclt pw.1, s_wlen pw (br_t (nI_lt (by omega) (by omega)) ?_)⟩⟩
    rw [show nI i + (1 : Int32) = nI (i + 1) from nI_1 i]
    refine hr G eqLa.rf fun i' j' h1 h2 => ht i' j' h1 ?_
    rcases h2 with z | z
    · by_cases e : i' = i
      · exact Or.inr ⟨e, by omega⟩
      · exact Or.inl (by omega)
    · omega
  | succ d ih =>
    intro j G h hj ht hr
    have hh := h
    obtain ⟨c, r0, r1, r2', r3, pt, pw, s, l1, l2, ne, hk⟩ := h
    have hm8 := pw.2.2.2.2.2.1
    have hl8 := pt.2.2.2.2.2.1
    have h' : pWy o (hsI G la (9 * i + j) (nI (dD sk l m i j))) w ta wa sa la l m sk := hh.eq eqLa.rf.set
    obtain ⟨n, hn⟩ := ih (j + 1) (hsI G la (9 * i + j) (nI (dD sk l m i j))) h' (by omega) (fun i' j' h1 h2 => by
      rw [hI_sI]
      by_cases e : la = la ∧ 9 * i' + j' = 9 * i + j
      · have e1 : i' = i := by omega
        have e2 : j' = j := by omega
        rw [if_pos e, e1, e2]
      · rw [if_neg e]
        refine ht i' j' h1 ?_
        rcases h2 with z | z
        · exact Or.inl z
        · by_cases e2 : j' = j
          · exact absurd ⟨rfl, by rw [z.1, e2]⟩ e
          · exact Or.inr ⟨z.1, by omega⟩) (fun G' e1 e2 => hr G' (by
      obtain ⟨x1, x2, x3, x4, x5, x6⟩ := e1
      exact ⟨x1, x2, x3, x4, x5, fun b k hb => by rw [x6 b k hb, hI_sI, if_neg (fun z => hb z.1)]⟩) e2)
    refine ⟨n + 1, ?_⟩
    show wX7_distance_b17 Q r2 (wX7_distance_l17 Q r2 n) _ _ _ _
    unfold wX7_distance_b17
    refine ⟨hclt c, hlet_i ⟨wa, r1, hclt pw.1, s_wlen pw (br_f (nI_nlt (by omega) (by omega)) ⟨hclt c, hlet_i ?_⟩)⟩⟩
    unfold wX7_at
    rw [show (9 : Int32) * nI i + nI j = nI (9 * i + j) by rw [show (9 : Int32) = nI 9 from rfl, pk_mul, nI_add]]
    refine ⟨hclt c, s_leastOf hh hi (by omega) (fun i' j' a1 a2 a3 => ht i' j' (by omega) ?_) ⟨la, r3, l1, ?_, hlet_i ?_⟩⟩
    · by_cases e : i' = i
      · exact Or.inr ⟨e, by omega⟩
      · exact Or.inl (by omega)
    · rw [l2]
      exact vp_in_nI (by omega) (by decide)
    · rw [nI_clamp (by omega), show nI j + (1 : Int32) = nI (j + 1) from nI_1 j]
      exact hn
theorem s_dist2 {Q : hG → Int32 → Prop} {G0 : hG} (hQ : ∀ G', eqLa G0 G' la → Q G' (nI (dist sk l m))) :
    ∀ (n i : Nat) (G : hG), pWy o G w ta wa sa la l m sk → eqLa G0 G la → i ≤ l.length + 1 → l.length + 1 - i < n → tOk G la sk l m i 0 → wX7_distance_l2 Q n w (nI i) G := by
  intro n
  induction n with
  | zero =>
    intro i G _ _ _ hn _
    omega
  | succ n ih =>
    intro i G h he hi hn ht
    have hh := h
    obtain ⟨c, r0, r1, r2', r3, pt, pw, s, l1, l2, ne, hk⟩ := h
    have hm8 := pw.2.2.2.2.2.1
    have hl8 := pt.2.2.2.2.2.1
    show wX7_distance_b2 Q (wX7_distance_l2 Q n) _ _ _
    unfold wX7_distance_b2
    refine ⟨hclt c, hlet_i ⟨ta, r0, hclt pt.1, s_wlen pt (br_c (fun e => ?_) (fun e => ?_))⟩⟩
    · have e2 := (nI_ltI (by omega) (by omega)).mp e
      refine ⟨hclt c, hlet_i ⟨hclt c, hlet_i ⟨ta, r0, hclt pt.1, s_wlen pt ⟨hclt c, hlet_i ⟨wa, r1, hclt pw.1, s_wlen pw ?_⟩⟩⟩⟩⟩
      unfold wX7_at
      rw [show (9 : Int32) * nI l.length + nI m.length = nI (9 * l.length + m.length) by rw [show (9 : Int32) = nI 9 from rfl, pk_mul, nI_add]]
      refine ⟨la, r3, hclt l1, by rw [l2]; exact vp_in_nI (by omega) (by decide), ?_⟩
      rw [nI_clamp (by omega), ht l.length m.length (Nat.le_refl _) (Or.inl (by omega))]
      exact hQ G he
    · have e2 : i ≤ l.length := by
        apply Nat.not_lt.mp
        intro z
        exact e (nI_lt z (by omega))
      refine s_dist17 e2 (m.length + 1) 0 G hh (by omega) ht fun G' a1 a2 => ih (i + 1) G' (hh.eq a1) ?_ (by omega) (by omega) a2
      obtain ⟨x1, x2, x3, x4, x5, x6⟩ := he
      obtain ⟨y1, y2, y3, y4, y5, y6⟩ := a1
      exact ⟨y1.trans x1, y2.trans x2, y3.trans x3, y4.trans x4, y5.trans x5, fun b j hb => (y6 b j hb).trans (x6 b j hb)⟩
theorem s_wdist {Q : hG → Int32 → Prop} (h : pWy o G w ta wa sa la l m sk) (hQ : ∀ G', eqLa G G' la → Q G' (nI (dist sk l m))) : wX7_distance Q w G := by
  unfold wX7_distance
  exact ⟨l.length + 2, s_dist2 hQ _ 0 G h eqLa.rf (by omega) (by omega) (fun i' j' _ h2 => by omega)⟩
/-- Book.distance -/
theorem s_bdist {Q : hG → Int32 → Prop} {a b t v : Nat} {x : Nat → Nat} {B : Bk} (h : pBr o G b a x B) (hk : kS o G) (ht : pW o G t l) (hv : pW o G v m) (hQ : ∀ o' G', (∀ M, gFr M o G o' G') → Q G' (nI (dist (bK B) l m))) : wX2_distance Q a t v G := by
  unfold wX2_distance
  intro q hq
  have f1 : ∀ M, gFr M o G (gU o q (9, 9)) (hnw G q 7 0) := fun M => gFr.rf.nw (9, 9) hq
  have h1 := h.fr (f1 gNo) (fun i z => z) (fun z => z)
  obtain ⟨⟨c1, w1, r1⟩, -, -, -, -, -, -, p6, -⟩ := h1
  refine hlet_i ⟨hclt c1, hlet_i ⟨x 6, r1 6 (by decide), ?_⟩⟩
  unfold wX7_init
  intro p hp
  refine hlet_i ?_
  have f2 : ∀ M, gFr M o G (gU (gU o q (9, 9)) p (9, 9)) (hnw (hnw G q 7 0) p 100 81) := fun M => (f1 M).nw (9, 9) hp
  have hpG : hC G p = none := (f1 gNo).fresh hp
  have pq : q ≠ p := fun z => by
    have := hp
    rw [← z] at this
    unfold hfr at this
    rw [hC_nw, if_pos rfl] at this
    cases this
  have cq : hC (hnw (hnw G q 7 0) p 100 81) q = some (7, true) := by rw [hC_nw, if_neg pq, hC_nw, if_pos rfl]
  refine ⟨cq, hlet_i ⟨cq, hlet_i ⟨cq, hlet_i ⟨cq, hlet_i ⟨hclt cq, ?_⟩⟩⟩⟩⟩
  obtain ⟨G3, e3⟩ : ∃ G3, G3 = hsR (hsR (hsR (hsR (hnw (hnw G q 7 0) p 100 81) q 3 (some p)) q 0 (some t)) q 1 (some v)) q 2 (some (x 6)) := ⟨_, rfl⟩
  have f3 : ∀ M, gFr M o G (gU (gU o q (9, 9)) p (9, 9)) G3 := fun M => by
    rw [e3]
    exact ((((f2 M).sR (Or.inl hq)).sR (Or.inl hq)).sR (Or.inl hq)).sR (Or.inl hq)
  rw [← e3]
  have p6' := (h.2.2.2.2.2.2.2.1).fr (f3 gNo) (fun z => z)
  have hx6 : x 6 ≠ p := fun z => by
    have := h.2.2.2.2.2.2.2.1.1
    rw [z, hpG] at this
    cases this
  refine s_wdist (l := l) (m := m) (sk := bK B) (ta := t) (wa := v) (sa := x 6) (la := p) (o := gU (gU o q (9, 9)) p (9, 9)) ⟨by rw [e3]; exact cq, ?_, ?_, ?_, ?_, ht.fr (f3 gNo) (fun z => z), hv.fr (f3 gNo) (fun z => z), ⟨p6'.1, p6'.2.2.1, p6'.2.2.2⟩, ?_, ?_, hx6, hk.fr (f3 gNo) (fun z => z)⟩ fun G' e => hQ _ G' fun M => e.fr (f3 M) hpG
  · rw [e3, hR_sR, if_neg (fun z => by have := z.2; omega), hR_sR, if_neg (fun z => by have := z.2; omega), hR_sR, if_pos ⟨rfl, rfl⟩]
  · rw [e3, hR_sR, if_neg (fun z => by have := z.2; omega), hR_sR, if_pos ⟨rfl, rfl⟩]
  · rw [e3, hR_sR, if_pos ⟨rfl, rfl⟩]
  · rw [e3, hR_sR, if_neg (fun z => by have := z.2; omega), hR_sR, if_neg (fun z => by have := z.2; omega), hR_sR, if_neg (fun z => by have := z.2; omega), hR_sR, if_pos ⟨rfl, rfl⟩]
  · rw [e3, hC_sR, hC_sR, hC_sR, hC_sR, hC_nw, if_pos rfl]
  · rw [e3, hN_sR, hN_sR, hN_sR, hN_sR, hN_nw, if_pos rfl]
end P25
