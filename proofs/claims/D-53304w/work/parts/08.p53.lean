/-! ===== plain law 53: Reader.next ===== -/
set_option maxRecDepth 100000
section P53
variable {o : gO} {G : hG} {xa ra p wa na : Nat} {T : List Nat} {f : Int32}
theorem s_next {Q : hG → Int32 → Prop} {X : Bool → hG → Prop} (h : pRd o G xa ra T p f wa na) (hk : kS o G)
    (hE : (p + rnM T 32 32 24 p = T.length ∨ f ≠ -1) → ∀ G', pRd o G' xa ra T (p + rnM T 32 32 24 p) f wa na → gFr tR o G o G' → Q G' 0)
    (h1 : p + rnM T 32 32 24 p ≠ T.length → f = -1 → ∀ v p' w n, rdC T (p + rnM T 32 32 24 p) = .ok (v, p', w, n) → ∀ o' G' cs, pRd o' G' xa ra T p' (-1) wa na → gFr tR o G o' G' → hR G' ra 2 = some cs → pDS o' G' (0, 6) cs (cwd v) → v < 8 → pAr o' G' wa na (agT v) (agT v).length w n → Q G' 1)
    (h0 : p + rnM T 32 32 24 p ≠ T.length → f = -1 → ∀ e, rdC T (p + rnM T 32 32 24 p) = .error e → ∀ o' G', pRd o' G' xa ra T e (nI e) wa na → gFr tR o G o' G' → Q G' 1) : wX11_next Q X ra G := by
  unfold wX11_next wX11_next_b27 wX11_next_b44
  have h23 := h.1.2.1
  refine ⟨hclt h.2.1.1, s_spaces h fun G1 r1 f1 hr1 => ?_⟩
  have F1 : gFr tR o G o G1 := f1.t7 (by decide)
  have hle := r1.2.2.2.2
  have k1 := hk.fr f1 (fun z => by cases z)
  have hr := r1
  obtain ⟨⟨⟨x1, x2, x3, ta, x4, x5, x6, x7, x8⟩, x9, x10⟩, ⟨a1, a2, a3, a4, a5, a6, a7⟩, -, -, d⟩ := r1
  refine ⟨hclt a1, hclt a1, hlet_i ⟨xa, a3, hclt x1, ?_⟩⟩
  rw [a4, x3, a5]
  refine br_c (fun z => ?_) (fun z => ⟨hclt a1, br_c (fun y => ⟨hclt a1, ?_⟩) (fun y => ?_)⟩)
  · exact hE (Or.inl ((nI_eq (by omega) (by omega)).mp z)) G1 hr F1
  · have zn : p + rnM T 32 32 24 p ≠ T.length := fun q => z (by rw [q])
    refine s_readCommand hr k1 (fun v p' w n e o2 G2 cs t1 t2 t3 t4 t5 t6 => br_f (by decide) ?_) (fun e he o2 G2 t1 t2 => br_t rfl ⟨hclt t1.2.1.1, t1.2.1.1, ?_⟩)
    · rw [y] at t1
      exact h1 zn y v p' w n e o2 G2 cs t1 (F1.tr t2) t3 t4 t5 t6
    · rw [t1.2.1.2.2.2.1]
      obtain ⟨u0, ⟨b1, b2, b3, b4, b5, b6, b7⟩, u2, u3, u4⟩ := t1
      have fw : gFr (gOnly (0, 7)) o2 G2 o2 (hsI G2 ra 1 (nI e)) := gFr.rf.sI (Or.inr b2)
      exact hlet_i (h0 zn y e he o2 _ ⟨u0.fr fw (fun i z => by cases z), ⟨b1, b2, b3, by rw [hI_sI, if_neg (fun z => by cases z.2)]; exact b4, by rw [hI_sI, if_pos ⟨rfl, rfl⟩], b6, b7⟩, u2, u3, u4⟩ ((F1.tr t2).tr (fw.t7 (by decide))))
  · exact hE (Or.inr y) G1 hr F1
/-- a new reader -/
theorem s_newRd {Q : hG → Prop} {q : Nat} (hx : pTx o G xa T) (hq : hC G q = some (8, true)) (ho : o q = (0, 7)) (h0 : hI G q 0 = 0) (hQ : ∀ o' G' wa na, pRd o' G' xa q T 0 (-1) wa na → gFr tR o G o' G' → Q G') : wX11_init Q q xa G := by
  unfold wX11_init
  have f1 : gFr (gOnly (0, 7)) o G o (hsR (hsI (hsR G q 5 (some xa)) q 1 (-1)) q 2 (some (hK G 132))) := (((gFr.rf (M := gOnly (0, 7)) (o := o) (G := G)).sR (Or.inr ho)).sI (Or.inr ho)).sR (Or.inr ho)
  refine ⟨hq, hlet_i ⟨hq, hlet_i ⟨hq, ?_⟩⟩⟩
  rw [show hK (hsI (hsR G q 5 (some xa)) q 1 (-1)) 132 = hK G 132 from rfl]
  refine hlet_e fun G3 e3 => ?_
  rw [← e3] at f1
  intro p1 hp1
  have q1 : q ≠ p1 := fun z => by
    unfold hfr at hp1
    rw [← z, f1.C hq] at hp1
    cases hp1
  have g1 : ∀ M, gFr M o G3 (gU o p1 (0, 5)) (hnw G3 p1 104 2) := fun M => gFr.rf.nw _ hp1
  have o1 : gU o p1 (0, 5) q = (0, 7) := by rw [gU_n q1]; exact ho
  refine hlet_i ⟨(g1 gNo).C (f1.C hq), hlet_e fun G5 e5 => ?_⟩
  have g2 : gFr (gOnly (0, 7)) o G (gU o p1 (0, 5)) G5 := by
    rw [e5]
    exact (f1.tr (g1 _)).tr (gFr.rf.sR (Or.inr o1))
  have c5 : hC G5 p1 = some (104, true) := by rw [e5, hC_sR, hC_nw, if_pos rfl]
  have n5 : hN G5 p1 = 2 := by rw [e5, hN_sR, hN_nw, if_pos rfl]
  intro p2 hp2
  have q2 : q ≠ p2 := fun z => by
    unfold hfr at hp2
    rw [← z, g2.C hq] at hp2
    cases hp2
  have p12 : p1 ≠ p2 := fun z => by
    unfold hfr at hp2
    rw [← z, c5] at hp2
    cases hp2
  have g3 : ∀ M, gFr M (gU o p1 (0, 5)) G5 (gU (gU o p1 (0, 5)) p2 (0, 5)) (hnw G5 p2 100 2) := fun M => gFr.rf.nw _ hp2
  have o2 : gU (gU o p1 (0, 5)) p2 (0, 5) q = (0, 7) := by rw [gU_n q2]; exact o1
  refine hlet_i ⟨(g3 gNo).C (g2.C hq), hlet_i ?_⟩
  have g4 : gFr (gOnly (0, 7)) o G (gU (gU o p1 (0, 5)) p2 (0, 5)) (hsR (hnw G5 p2 100 2) q 4 (some p2)) := (g2.tr (g3 _)).tr (gFr.rf.sR (Or.inr o2))
  have i5 : hI G5 q = hI G3 q := by
    rw [e5, hI_sR]
    funext j
    rw [hI_nw, if_neg q1]
  have r5 : ∀ j, hR G5 q j = if j = 3 then some p1 else hR G3 q j := fun j => by
    rw [e5, hR_sR]
    by_cases e : j = 3
    · rw [if_pos ⟨rfl, e⟩, if_pos e]
    · rw [if_neg (fun z => e z.2), if_neg e, hR_nw, if_neg q1]
  have r6 : ∀ j, j ≠ 4 → hR (hsR (hnw G5 p2 100 2) q 4 (some p2)) q j = hR G5 q j := fun j hj => by
    rw [hR_sR, if_neg (fun z => hj z.2), hR_nw, if_neg q2]
  have i6 : hI (hsR (hnw G5 p2 100 2) q 4 (some p2)) q = hI G3 q := by
    rw [hI_sR, ← i5]
    funext j
    rw [hI_nw, if_neg q2]
  refine hQ _ _ p1 p2 ⟨hx.fr g4 (fun i z => by cases z), ⟨g4.C hq, o2, ?_, ?_, ?_, ?_, ?_⟩, ⟨?_, ?_, ?_⟩, ⟨?_, gU_s, ?_⟩, Nat.zero_le _⟩ (g4.t7 (by decide))
  · rw [r6 5 (by decide), r5 5, if_neg (by decide), e3, hR_sR, if_neg (fun z => by have := z.2; omega), hR_sI, hR_sR, if_pos ⟨rfl, rfl⟩]
  · rw [i6, e3, hI_sR, hI_sI, if_neg (fun z => by cases z.2), hI_sR]
    exact h0
  · rw [i6, e3, hI_sR, hI_sI, if_pos ⟨rfl, rfl⟩]
  · rw [r6 3 (by decide), r5 3, if_pos rfl]
  · rw [hR_sR, if_pos ⟨rfl, rfl⟩]
  · rw [hC_sR, hC_nw, if_neg p12]
    exact c5
  · rw [gU_n p12, gU_s]
  · rw [hN_sR, hN_nw, if_neg p12]
    exact n5
  · rw [hC_sR, hC_nw, if_pos rfl]
  · rw [hN_sR, hN_nw, if_pos rfl]
end P53
