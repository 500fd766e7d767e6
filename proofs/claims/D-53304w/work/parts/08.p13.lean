/-! ===== plain law 13: TreeMap.remove ===== -/
set_option maxRecDepth 100000
section PTM13
variable {o o' : gO} {G G' : hG} {u : Nat × Nat} {t s s' : Nat} {L L' : List Nat} {k k' : Nat → Wd} {v v' : Nat → Option Nat} {sub sub' : Nat → List Nat} {root root' : Option Nat}
theorem pTM.up2 (h : pTM o G u t s L k v sub root) (hu : u ≠ (0, 0)) (hf : gFr (gOnly u) o G o' G') (hL : ∀ n, n ∈ L' → n ∈ L) (hlen : L'.length ≤ 1000) (h4 : hI G' t 4 = nI s') (h2 : hR G' t 2 = hR G t 2) (h3 : hR G' t 3 = root') (g0 : ∀ n, n ∈ L' → hR G' n 0 = hR G n 0) (g1 : ∀ n, n ∈ L' → hR G' n 1 = hR G n 1) (g5 : ∀ n, n ∈ L' → hI G' n 5 = 0 ∨ hI G' n 5 = 1) (ti : TI (fl G' 2) (fl G' 3) (fl G' 4) sub' L' root') (w6 : hR G' t 6 = hR G t 6) (w7 : hR G' t 7 = hR G t 7) (w1 : hR G' t 1 = hR G t 1) : pTM o' G' u t s' L' k v sub' root' := by
  have h0 : ¬ gOnly u (0, 0) := fun z => hu z.symm
  refine ⟨hf.C h.c, (hf.O h.c).trans h.ow, h4, h2.trans h.cmp, h3, fun z => h.nt (hL t z), hlen, fun n e => ?_, ti, ?_⟩
  · obtain ⟨a1, a2, ⟨a, a3, a4⟩, a5, a6⟩ := h.nd n (hL n e)
    exact ⟨hf.C a1, (hf.O a1).trans a2, ⟨a, (g0 n e).trans a3, a4.fr hf h0⟩, (g1 n e).trans a5, g5 n e⟩
  · have key : ∀ (j ci : Nat), hR G' t j = hR G t j → (∀ q, hR G t j = some q → hC G q = some (ci, true) ∧ o q = (0, 0) ∧ hR G q 0 = some t) → (∀ q, hR G' t j = some q → hC G' q = some (ci, true) ∧ o' q = (0, 0) ∧ hR G' q 0 = some t) := by
      intro j ci hj g q e
      rw [hj] at e
      obtain ⟨b1, b2, b3⟩ := g q e
      exact ⟨hf.C b1, (hf.O b1).trans b2, (hf.S b1 b2 h0).R b3⟩
    exact ⟨key 6 16 w6 h.vw.1, key 7 14 w7 h.vw.2.1, key 1 15 w1 h.vw.2.2⟩
theorem rmv_len {d : Nat} {L : List Nat} : (rmv d L).length ≤ L.length := List.length_filter_le ..
theorem s_b192 {Q : hG → Prop} {d : Nat} (h : pTM o G u t s L k v sub root) (hu : u ≠ (0, 0)) (hd : d ∈ L) (h2 : hR G d 2 = none) (h3 : hR G d 3 = none) (hp : ∃ g, g ∈ L ∧ g ≠ d) (hQ : ∀ G' sub' root', pTM o G' u t s (rmv d L) k v sub' root' → gFr (gOnly u) o G o G' → Q G') : wJ1_deleteEntry_b192 Q d G := by
  unfold wJ1_deleteEntry_b192
  refine ⟨hclt (h.nc hd), hlet_i ?_⟩
  cases e : hR G d 4 with
  | none =>
    exfalso
    have h1 := h.ti.ro
    rw [h.ti.pn hd e] at h1
    have h5 : sub d = L := h1
    have h6 : sub d = so sub (hR G d 2) ++ d :: so sub (hR G d 3) := h.ti.eq hd
    rw [h2, h3] at h6
    obtain ⟨g, hg, hgd⟩ := hp
    rw [← h5, h6] at hg
    simp [so] at hg
    exact hgd hg
  | some g =>
    obtain ⟨hgL, hgc⟩ := h.ti.pa hd e
    have gd : g ≠ d := fun z => h.ti.p1 hd (show hR G d 4 = some d by rw [e, z])
    have tg : g ≠ t := fun z => h.nt (by rw [← z]; exact hgL)
    have td : d ≠ t := fun z => h.nt (by rw [← z]; exact hd)
    -- the end
    have fin : ∀ G2, hC G2 = hC G → hI G2 = hI G → gFr (gOnly u) o G o G2 → (∀ b j, hR G2 b j = if b = g ∧ ((j = 2 ∧ hR G g 2 = some d) ∨ (j = 3 ∧ hR G g 2 ≠ some d)) then none else hR G b j) → wJ1_deleteEntry_b240 Q d G2 := by
      intro G2 e1 e2 f2 rr
      unfold wJ1_deleteEntry_b240 wJ1_deleteEntry_b245
      refine ⟨by rw [e1]; exact h.nc hd, hlet_i ?_⟩
      have f3 : gFr (gOnly u) o G o (hsR G2 d 4 none) := f2.sR (Or.inr (h.no hd))
      have r3 : ∀ b j, hR (hsR G2 d 4 none) b j = if b = d ∧ j = 4 then none else if b = g ∧ ((j = 2 ∧ hR G g 2 = some d) ∨ (j = 3 ∧ hR G g 2 ≠ some d)) then none else hR G b j := fun b j => by rw [hR_sR, rr]
      have ti := h.ti.del (lf' := fl (hsR G2 d 4 none) 2) (rt' := fl (hsR G2 d 4 none) 3) (pr' := fl (hsR G2 d 4 none) 4) (cO := none) (root' := root) hd (Or.inl ⟨h2, h3⟩) (fun b hb bd => by
          show hR (hsR G2 d 4 none) b 2 = if hR G d 4 = some b ∧ hR G b 2 = some d then none else hR G b 2
          rw [r3, e]
          grind) (fun b hb bd => by
          show hR (hsR G2 d 4 none) b 3 = if hR G d 4 = some b ∧ hR G b 2 ≠ some d then none else hR G b 3
          rw [r3, e]
          grind) (fun b hb bd => by
          show hR (hsR G2 d 4 none) b 4 = if none = some b then hR G d 4 else hR G b 4
          rw [r3]
          grind) (by
          show root = if hR G d 4 = none then none else root
          rw [e]
          rfl)
      have rt' : ∀ j, hR (hsR G2 d 4 none) t j = hR G t j := fun j => by
        rw [r3, if_neg (fun z => td z.1.symm), if_neg (fun z => tg z.1.symm)]
      have rn : ∀ n j, n ∈ rmv d L → j = 0 ∨ j = 1 → hR (hsR G2 d 4 none) n j = hR G n j := fun n j _ hj => by
        rw [r3, if_neg (fun z => by have := z.2; omega), if_neg (fun z => by have := z.2; omega)]
      refine hQ _ _ root (h.up2 hu f3 (fun n hn => (rmv_mem.mp hn).1) (Nat.le_trans rmv_len h.len) ?_ (rt' 2) ((rt' 3).trans h.rt) (fun n hn => rn n 0 hn (Or.inl rfl)) (fun n hn => rn n 1 hn (Or.inr rfl)) (fun n hn => ?_) ti (rt' 6) (rt' 7) (rt' 1)) f3
      · rw [hI_sR, e2]
        exact h.sz
      · rw [hI_sR, e2]
        exact h.col5 (rmv_mem.mp hn).1
    refine cm_some ⟨hclt (h.nc hd), hlet_i ⟨g, rfl, hclt (h.nc hgL), hlet_i (br_c (fun c => ⟨hclt (h.nc hd), hlet_i ⟨g, rfl, h.nc hgL, hlet_i (fin _ rfl rfl (gFr.rf.sR (Or.inr (h.no hgL))) fun b j => ?_)⟩⟩) (fun c => ⟨hclt (h.nc hd), hlet_i ⟨g, rfl, hclt (h.nc hgL), hlet_i (br_c (fun c2 => ⟨hclt (h.nc hd), hlet_i ⟨g, rfl, h.nc hgL, hlet_i (fin _ rfl rfl (gFr.rf.sR (Or.inr (h.no hgL))) fun b j => ?_)⟩⟩) (fun c2 => ?_))⟩⟩))⟩⟩
    · rw [hR_sR]
      grind
    · rw [hR_sR]
      grind
    · exfalso
      rcases hgc with w | w
      · exact c w.symm
      · exact c2 w.symm
theorem s_b57 {Q : hG → Prop} {d : Nat} (h : pTM o G u t s L k v sub root) (hu : u ≠ (0, 0)) (hd : d ∈ L) (hone : hR G d 2 = none ∨ hR G d 3 = none) (hQ : ∀ G' sub' root', pTM o G' u t s (rmv d L) k v sub' root' → gFr (gOnly u) o G o G' → Q G') : wJ1_deleteEntry_b57 Q t d G := by
  have cd := h.nc hd
  have td : d ≠ t := fun z => h.nt (by rw [← z]; exact hd)
  -- with a child
  have one : ∀ c, ((hR G d 2 = some c ∧ hR G d 3 = none) ∨ (hR G d 2 = none ∧ hR G d 3 = some c)) → wJ1_deleteEntry_b75 Q t d (some c) G := by
    intro c hc
    have hcL : c ∈ L ∧ c ≠ d ∧ hR G c 4 = some d := by
      rcases hc with z | z
      · have := h.ti.lc hd z.1
        exact ⟨this.1, h.ti.lne hd z.1, this.2⟩
      · have := h.ti.rc hd z.2
        exact ⟨this.1, h.ti.rne hd z.2, this.2⟩
    have cc := h.nc hcL.1
    have tc : c ≠ t := fun z => h.nt (by rw [← z]; exact hcL.1)
    have fin : ∀ G2, hC G2 = hC G → hI G2 = hI G → gFr (gOnly u) o G o G2 → (∀ b, b ≠ t → hR G2 b 2 = if hR G d 4 = some b ∧ hR G b 2 = some d then some c else hR G b 2) → (∀ b, b ≠ t → hR G2 b 3 = if hR G d 4 = some b ∧ hR G b 2 ≠ some d then some c else hR G b 3) → (∀ b, b ≠ t → hR G2 b 4 = if c = b then hR G d 4 else hR G b 4) → hR G2 t 3 = (if hR G d 4 = none then some c else root) → (∀ j, j ≠ 3 → hR G2 t j = hR G t j) → (∀ b j, j = 0 ∨ j = 1 → hR G2 b j = hR G b j) → wJ1_deleteEntry_b133 Q t d c G2 := by
      intro G2 e1 e2 f2 r2 r3 r4 rt rtj rn
      unfold wJ1_deleteEntry_b133 wJ1_deleteEntry_b245
      refine ⟨by rw [e1]; exact cd, hlet_i ⟨by rw [hC_sR, e1]; exact cd, hlet_i ⟨by rw [hC_sR, hC_sR, e1]; exact cd, hlet_i ?_⟩⟩⟩
      obtain ⟨G5, hG5⟩ : ∃ G5, G5 = hsR (hsR (hsR G2 d 4 none) d 3 none) d 2 none := ⟨_, rfl⟩
      rw [← hG5]
      have f5 : gFr (gOnly u) o G o G5 := by
        rw [hG5]
        exact ((f2.sR (Or.inr (h.no hd))).sR (Or.inr (h.no hd))).sR (Or.inr (h.no hd))
      have i5 : hI G5 = hI G := by rw [hG5]; exact e2
      have rb : ∀ b j, b ≠ d → hR G5 b j = hR G2 b j := fun b j z => by
        rw [hG5, hR_sR, hR_sR, hR_sR, if_neg (fun w => z w.1), if_neg (fun w => z w.1), if_neg (fun w => z w.1)]
      have bt : ∀ b, b ∈ L → b ≠ t := fun b hb z => h.nt (by rw [← z]; exact hb)
      have ti := h.ti.del (lf' := fl G5 2) (rt' := fl G5 3) (pr' := fl G5 4) (cO := some c) (root' := hR G5 t 3) hd hc (fun b hb bd => (rb b 2 bd).trans (r2 b (bt b hb))) (fun b hb bd => (rb b 3 bd).trans (r3 b (bt b hb))) (fun b hb bd => by
          show hR G5 b 4 = if some c = some b then hR G d 4 else hR G b 4
          rw [rb b 4 bd, r4 b (bt b hb)]
          by_cases z : c = b
          · rw [if_pos z, if_pos (by rw [z])]
          · rw [if_neg z, if_neg (fun w => z (Option.some.inj w))]) (by rw [rb t 3 (fun z => td z.symm)]; exact rt)
      have h5 : pTM o G5 u t s (rmv d L) k v _ _ := h.up2 hu f5 (fun n hn => (rmv_mem.mp hn).1) (Nat.le_trans rmv_len h.len) (by rw [i5]; exact h.sz) ((rb t 2 (fun z => td z.symm)).trans (rtj 2 (by decide))) rfl (fun n hn => (rb n 0 (rmv_mem.mp hn).2).trans (rn n 0 (Or.inl rfl))) (fun n hn => (rb n 1 (rmv_mem.mp hn).2).trans (rn n 1 (Or.inr rfl))) (fun n hn => by rw [i5]; exact h.col5 (rmv_mem.mp hn).1) ti ((rb t 6 (fun z => td z.symm)).trans (rtj 6 (by decide))) ((rb t 7 (fun z => td z.symm)).trans (rtj 7 (by decide))) ((rb t 1 (fun z => td z.symm)).trans (rtj 1 (by decide)))
      refine ⟨hclt (f5.C cd), br_c (fun _ => ⟨hclt h5.c, ?_⟩) (fun _ => hQ _ _ _ h5 f5)⟩
      exact s_fixD h5 hu (rmv_mem.mpr ⟨hcL.1, hcL.2.1⟩) fun G' sub' root' a1 a2 _ _ => hQ _ _ _ a1 (f5.tr a2)
    unfold wJ1_deleteEntry_b75
    refine cm_some ⟨hclt cd, hlet_i ⟨cc, hlet_i ⟨hclt cd, hlet_i ?_⟩⟩⟩
    have d4 : hR (hsR G c 4 (hR G d 4)) d 4 = hR G d 4 := by rw [hR_sR, if_neg (fun z => hcL.2.1 z.1.symm)]
    rw [d4]
    have f1 : gFr (gOnly u) o G o (hsR G c 4 (hR G d 4)) := gFr.rf.sR (Or.inr (h.no hcL.1))
    cases e : hR G d 4 with
    | none =>
      refine cm_none ⟨h.c, hlet_i (fin _ rfl rfl ?_ (fun b hb => ?_) (fun b hb => ?_) (fun b hb => ?_) ?_ (fun j hj => ?_) (fun b j hj => ?_))⟩
      · rw [← e]
        exact f1.sR (Or.inr h.ow)
      all_goals rw [hR_sR, hR_sR]
      all_goals grind
    | some g =>
      obtain ⟨hgL, hgc⟩ := h.ti.pa hd e
      have gd : g ≠ d := fun z => h.ti.p1 hd (show hR G d 4 = some d by rw [e, z])
      have tg : g ≠ t := fun z => h.nt (by rw [← z]; exact hgL)
      have gc : g ≠ c := fun z => h.ti.p2 hcL.1 hcL.2.2 (show hR G d 4 = some c by rw [e, z])
      have cg := h.nc hgL
      have g2 : hR (hsR G c 4 (some g)) g 2 = hR G g 2 := by rw [hR_sR, if_neg (fun z => gc z.1)]
      have d4' : hR (hsR G c 4 (some g)) d 4 = some g := by rw [hR_sR, if_neg (fun z => hcL.2.1 z.1.symm)]; exact e
      refine cm_some ⟨hclt cd, hlet_i ⟨g, rfl, hclt cg, hlet_i ?_⟩⟩
      rw [g2]
      refine br_c (fun c1 => ⟨hclt cd, hlet_i ⟨g, rfl, cg, hlet_i (fin _ rfl rfl ?_ (fun b hb => ?_) (fun b hb => ?_) (fun b hb => ?_) ?_ (fun j hj => ?_) (fun b j hj => ?_))⟩⟩) (fun c1 => ⟨hclt cd, hlet_i ⟨g, rfl, cg, hlet_i (fin _ rfl rfl ?_ (fun b hb => ?_) (fun b hb => ?_) (fun b hb => ?_) ?_ (fun j hj => ?_) (fun b j hj => ?_))⟩⟩)
      · rw [← e]
        exact f1.sR (Or.inr (h.no hgL))
      · rw [hR_sR, hR_sR, e]
        grind
      · rw [hR_sR, hR_sR, e]
        grind
      · rw [hR_sR, hR_sR, e]
        grind
      · rw [hR_sR, hR_sR, e, ← h.rt]
        grind
      · rw [hR_sR, hR_sR]
        grind
      · rw [hR_sR, hR_sR]
        grind
      · rw [← e]
        exact f1.sR (Or.inr (h.no hgL))
      · rw [hR_sR, hR_sR, e]
        grind
      · rw [hR_sR, hR_sR, e]
        grind
      · rw [hR_sR, hR_sR, e]
        grind
      · rw [hR_sR, hR_sR, e, ← h.rt]
        grind
      · rw [hR_sR, hR_sR]
        grind
      · rw [hR_sR, hR_sR]
        grind
  have leaf : hR G d 2 = none → hR G d 3 = none → wJ1_deleteEntry_b75 Q t d none G := by
    intro h2 h3
    unfold wJ1_deleteEntry_b75
    refine cm_none ⟨hclt cd, hlet_i ?_⟩
    cases e : hR G d 4 with
    | none =>
      unfold wJ1_deleteEntry_b245
      have f1 : gFr (gOnly u) o G o (hsR G t 3 none) := gFr.rf.sR (Or.inr h.ow)
      have rb : ∀ b j, b ≠ t → hR (hsR G t 3 none) b j = hR G b j := fun b j z => by rw [hR_sR, if_neg (fun w => z w.1)]
      have rj : ∀ j, j ≠ 3 → hR (hsR G t 3 none) t j = hR G t j := fun j z => by rw [hR_sR, if_neg (fun w => z w.2)]
      have bt : ∀ b, b ∈ L → b ≠ t := fun b hb z => h.nt (by rw [← z]; exact hb)
      have ti := h.ti.del (lf' := fl (hsR G t 3 none) 2) (rt' := fl (hsR G t 3 none) 3) (pr' := fl (hsR G t 3 none) 4) (cO := none) (root' := none) hd (Or.inl ⟨h2, h3⟩) (fun b hb bd => by
          show hR (hsR G t 3 none) b 2 = if hR G d 4 = some b ∧ hR G b 2 = some d then none else hR G b 2
          rw [rb b 2 (bt b hb), e]
          simp) (fun b hb bd => by
          show hR (hsR G t 3 none) b 3 = if hR G d 4 = some b ∧ hR G b 2 ≠ some d then none else hR G b 3
          rw [rb b 3 (bt b hb), e]
          simp) (fun b hb bd => by
          show hR (hsR G t 3 none) b 4 = if none = some b then hR G d 4 else hR G b 4
          rw [rb b 4 (bt b hb)]
          simp) (by
          show none = if hR G d 4 = none then none else root
          rw [e]
          rfl)
      refine cm_none ⟨h.c, hlet_i (hQ _ _ none (h.up2 hu f1 (fun n hn => (rmv_mem.mp hn).1) (Nat.le_trans rmv_len h.len) h.sz (rj 2 (by decide)) (by rw [hR_sR, if_pos ⟨rfl, rfl⟩]) (fun n hn => rb n 0 (bt n (rmv_mem.mp hn).1)) (fun n hn => rb n 1 (bt n (rmv_mem.mp hn).1)) (fun n hn => h.col5 (rmv_mem.mp hn).1) ti (rj 6 (by decide)) (rj 7 (by decide)) (rj 1 (by decide))) f1)⟩
    | some g =>
      obtain ⟨hgL, hgc⟩ := h.ti.pa hd e
      have gd : g ≠ d := fun z => h.ti.p1 hd (show hR G d 4 = some d by rw [e, z])
      refine cm_some ⟨hclt cd, br_c (fun _ => ⟨hclt h.c, ?_⟩) (fun _ => s_b192 h hu hd h2 h3 ⟨g, hgL, gd⟩ hQ)⟩
      exact s_fixD h hu hd fun G' sub' root' a1 a2 _ a4 => s_b192 a1 hu hd (a4.1.trans h2) (a4.2.trans h3) ⟨g, hgL, gd⟩ fun G'' sub'' root'' b1 b2 => hQ _ _ _ b1 (a2.tr b2)
  unfold wJ1_deleteEntry_b57
  refine ⟨hclt cd, hlet_i ?_⟩
  cases e2 : hR G d 2 with
  | none =>
    refine cm_none ⟨hclt cd, hlet_i ?_⟩
    cases e3 : hR G d 3 with
    | none => exact leaf e2 e3
    | some c => exact one c (Or.inr ⟨e2, e3⟩)
  | some c =>
    refine cm_some ⟨hclt cd, hlet_i ?_⟩
    rcases hone with z | z
    · rw [e2] at z
      cases z
    · exact one c (Or.inl ⟨e2, z⟩)
end PTM13
