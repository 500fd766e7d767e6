/-! ===== plain law 27: the JDK's priority queue ===== -/
set_option maxRecDepth 100000
section P27
variable {u : Nat × Nat} {o : gO} {r n : Nat}
def pQh (o : gO) (G : hG) (u : Nat × Nat) (r n : Nat) (f : Nat → It) (k : Nat) : Prop := hC G r = some (103, true) ∧ o r = u ∧ n ≤ hN G r ∧ hN G r ≤ 42 ∧ ∀ j, j < n → j ≠ k → ∃ s, hR G r j = some s ∧ pSg o G s (f j)
def eqRr (G G' : hG) (r : Nat) : Prop := hI G' = hI G ∧ (∀ b j, b ≠ r → hR G' b j = hR G b j) ∧ hN G' = hN G
theorem eqRr.st {G : hG} {r k : Nat} {x : Option Nat} : eqRr G (hsR G r k x) r := ⟨rfl, fun b j h => by rw [hR_sR, if_neg (fun z => h z.1)], rfl⟩
theorem eqRr.tr {G G' G'' : hG} {r : Nat} (h : eqRr G G' r) (h' : eqRr G' G'' r) : eqRr G G'' r := ⟨h'.1.trans h.1, fun b j z => (h'.2.1 b j z).trans (h.2.1 b j z), h'.2.2.trans h.2.2⟩
theorem pSg.ob {G : hG} {s : Nat} {e : It} (h : pSg o G s e) : hOb G hNob s := ⟨6, by decide, hclt h.1⟩
theorem pQh.fr {M : Nat × Nat → Prop} {o' : gO} {G G' : hG} {f : Nat → It} {k : Nat} (h : pQh o G u r n f k) (hf : gFr M o G o' G') (hu : ¬ M u) (h0 : ¬ M (0, 0)) : pQh o' G' u r n f k := by
  obtain ⟨h1, h2, h3, h4, h5⟩ := h
  have s := hf.S h1 h2 hu
  refine ⟨hf.C h1, (hf.O h1).trans h2, by rw [s.1]; exact h3, by rw [s.1]; exact h4, fun j a b => ?_⟩
  obtain ⟨x, h6, h7⟩ := h5 j a b
  exact ⟨x, s.R h6, h7.fr hf h0⟩
theorem pQh.put {G : hG} {f : Nat → It} {k s : Nat} (h : pQh o G u r n f k) (hu : u ≠ (0, 0)) (hs : pSg o G s (f k)) : pQh o (hsR G r k (some s)) u r n f n ∧ gFr (gOnly u) o G o (hsR G r k (some s)) := by
  obtain ⟨h1, h2, h3, h4, h5⟩ := h
  have fr := (gFr.rf (M := gOnly u) (o := o) (G := G)).sR (a := r) (k := k) (x := some s) (Or.inr h2)
  refine ⟨⟨h1, h2, h3, h4, fun j a _ => ?_⟩, fr⟩
  by_cases e : j = k
  · exact ⟨s, by rw [hR_sR, if_pos ⟨rfl, e⟩], by rw [e]; exact hs.fr fr (fun z => hu z.symm)⟩
  · obtain ⟨x, h6, h7⟩ := h5 j a e
    exact ⟨x, by rw [hR_sR, if_neg (fun z => e z.2)]; exact h6, h7.fr fr (fun z => hu z.symm)⟩
theorem pQh.mv {G : hG} {f : Nat → It} {k p s : Nat} (h : pQh o G u r n f k) (hu : u ≠ (0, 0)) (hpk : p ≠ k) (hp : pSg o G s (f p)) : pQh o (hsR G r k (some s)) u r n (swp f k p) p ∧ gFr (gOnly u) o G o (hsR G r k (some s)) := by
  obtain ⟨h1, h2, h3, h4, h5⟩ := h
  have fr := (gFr.rf (M := gOnly u) (o := o) (G := G)).sR (a := r) (k := k) (x := some s) (Or.inr h2)
  refine ⟨⟨h1, h2, h3, h4, fun j a b => ?_⟩, fr⟩
  by_cases e : j = k
  · exact ⟨s, by rw [hR_sR, if_pos ⟨rfl, e⟩], by rw [e, swp_i]; exact hp.fr fr (fun z => hu z.symm)⟩
  · obtain ⟨x, h6, h7⟩ := h5 j a e
    exact ⟨x, by rw [hR_sR, if_neg (fun z => e z.2)]; exact h6, by rw [swp_n e b]; exact h7.fr fr (fun z => hu z.symm)⟩
theorem s_q43 {Q : hG → Prop} {G : hG} {f : Nat → It} {k sx : Nat} (h : pQh o G u r n f k) (hk : k < n) (hs : pSg o G sx (f k)) (hQ : Q (hsR G r k (some sx))) : wJ35_siftUpUsingComparator_b43 Q (nI k) (some sx) r G := by
  obtain ⟨h1, h2, h3, h4, h5⟩ := h
  unfold wJ35_siftUpUsingComparator_b43
  refine ⟨h1, vp_in_nI (by omega) (by omega), hob_tk hs.ob, hlet_i ?_⟩
  rw [nI_clamp (by omega)]
  exact hQ
theorem s_q88 {Q : hG → Prop} {G : hG} {f : Nat → It} {k sx : Nat} (h : pQh o G u r n f k) (hk : k < n) (hs : pSg o G sx (f k)) (hQ : Q (hsR G r k (some sx))) : wJ35_siftDownUsingComparator_b88 Q (nI k) (some sx) r G := by
  obtain ⟨h1, h2, h3, h4, h5⟩ := h
  unfold wJ35_siftDownUsingComparator_b88
  refine ⟨h1, vp_in_nI (by omega) (by omega), hob_tk hs.ob, hlet_i ?_⟩
  rw [nI_clamp (by omega)]
  exact hQ
theorem s_qUp {Q : hG → Prop} {cm sx : Nat} (hu : u ≠ (0, 0)) : ∀ (k : Nat) (G : hG) (f : Nat → It), pQh o G u r n f k → k < n → pSg o G sx (f k) → hC G cm = some (23, true) → hpU f n k → (∀ G' g, pQh o G' u r n g n → hpH g n → eqS n f g → gFr (gOnly u) o G o G' → eqRr G G' r → Q G') → ∃ m, wJ35_siftUpUsingComparator_l0 Q m (nI k) (some sx) r (some cm) G := by
  intro k
  induction k using Nat.strongRecOn with
  | ind k ih =>
    intro G f h hk hs hc hh hQ
    have hh2 := h
    obtain ⟨h1, h2, h3, h4, h5⟩ := h
    by_cases e0 : k = 0
    · refine ⟨1, ?_⟩
      show wJ35_siftUpUsingComparator_b0 Q _ _ _ _ _ _
      unfold wJ35_siftUpUsingComparator_b0
      refine br_t (by rw [e0]; decide) (s_q43 hh2 hk hs ?_)
      have := hh2.put hu hs
      exact hQ _ f this.1 (hh.stop fun z => absurd z (by omega)) eqS.rf this.2 eqRr.st
    · obtain ⟨sp, hp1, hp2⟩ := h5 ((k - 1) / 2) (by omega) (by omega)
      by_cases el : iLb (f k) (f ((k - 1) / 2)) = true
      · have mv := hh2.mv hu (p := (k - 1) / 2) (by omega) hp2
        have h0 : ¬ gOnly u (0, 0) := fun z => hu z.symm
        obtain ⟨m, hm⟩ := ih ((k - 1) / 2) (by omega) _ _ mv.1 (by omega) (by rw [swp_j (by omega)]; exact hs.fr mv.2 h0) (mv.2.C hc) (hh.step (by omega) hk el) (fun G' g a1 a2 a3 a4 a5 => hQ G' g a1 a2 ((eqS.sw hk (by omega)).tr a3) (mv.2.tr a4) (eqRr.st.tr a5))
        refine ⟨m + 1, ?_⟩
        show wJ35_siftUpUsingComparator_b0 Q (wJ35_siftUpUsingComparator_l0 Q m) _ _ _ _ _
        unfold wJ35_siftUpUsingComparator_b0
        refine br_f (nI_nle (by omega) (by omega)) ?_
        rw [show (1 : Int32) = nI 1 from rfl, nI_sub (by omega), pk_ushrN (k := 1) (by omega) _ (by decide)]
        refine hlet_i ⟨hclt h1, vp_in_nI (by omega) (by omega), hlet_i ⟨cm, rfl, hclt hc, ?_⟩⟩
        rw [nI_clamp (by omega), hp1]
        refine s_ncmp hs hp2 hc fun z z1 z2 => br_t (z1.mpr el) ⟨h1, vp_in_nI (by omega) (by omega), hob_tk hp2.ob, hlet_i ?_⟩
        rw [nI_clamp (by omega)]
        exact hm
      · refine ⟨1, ?_⟩
        show wJ35_siftUpUsingComparator_b0 Q _ _ _ _ _ _
        unfold wJ35_siftUpUsingComparator_b0
        refine br_f (nI_nle (by omega) (by omega)) ?_
        rw [show (1 : Int32) = nI 1 from rfl, nI_sub (by omega), pk_ushrN (k := 1) (by omega) _ (by decide)]
        refine hlet_i ⟨hclt h1, vp_in_nI (by omega) (by omega), hlet_i ⟨cm, rfl, hclt hc, ?_⟩⟩
        rw [nI_clamp (by omega), hp1]
        refine s_ncmp hs hp2 hc fun z z1 z2 => br_f (fun y => el (z1.mp y)) (s_q43 hh2 hk hs ?_)
        have := hh2.put hu hs
        exact hQ _ f this.1 (hh.stop fun _ => el) eqS.rf this.2 eqRr.st
theorem s_qDn {Q : hG → Prop} {cm sx : Nat} (hu : u ≠ (0, 0)) : ∀ (d k : Nat) (G : hG) (f : Nat → It), k + d = n → pQh o G u r n f k → k < n → pSg o G sx (f k) → hC G cm = some (23, true) → hpD f n k → (∀ G' g, pQh o G' u r n g n → hpH g n → eqS n f g → gFr (gOnly u) o G o G' → eqRr G G' r → Q G') → ∃ m, wJ35_siftDownUsingComparator_l5 Q m (nI k) (some sx) r (nI n) (some cm) (nI (n / 2)) G := by
  intro d
  induction d using Nat.strongRecOn with
  | ind d ih =>
    intro k G f hd h hk hs hc hh hQ
    have hh2 := h
    obtain ⟨h1, h2, h3, h4, h5⟩ := h
    have h0 : ¬ gOnly u (0, 0) := fun z => hu z.symm
    by_cases e0 : n / 2 ≤ k
    · refine ⟨1, ?_⟩
      show wJ35_siftDownUsingComparator_b5 Q _ _ _ _ _ _ _ _
      unfold wJ35_siftDownUsingComparator_b5
      refine br_t ((nI_leI (by omega) (by omega)).mpr e0) (s_q88 hh2 hk hs ?_)
      have := hh2.put hu hs
      exact hQ _ f this.1 (hh.stop fun c z1 z2 z3 => absurd z3 (by omega)) eqS.rf this.2 eqRr.st
    · -- the step with a chosen child c
      have key : ∀ c sc, 0 < c → c < n → (c - 1) / 2 = k → hR G r c = some sc → pSg o G sc (f c) → (∀ d, 0 < d → d < n → (d - 1) / 2 = k → ¬ iLb (f d) (f c) = true) → ∃ m, wJ35_siftDownUsingComparator_b61 Q (wJ35_siftDownUsingComparator_l5 Q m) (nI k) (some sx) r (nI n) (some cm) (nI (n / 2)) (nI c) (some sc) G := by
        intro c sc c0 cn ck c1 c2 cm9
        by_cases el : iLb (f c) (f k) = true
        · have mv := hh2.mv hu (p := c) (by omega) c2
          obtain ⟨m, hm⟩ := ih (n - c) (by omega) c _ _ (by omega) mv.1 cn (by rw [swp_j (by omega)]; exact hs.fr mv.2 h0) (mv.2.C hc) (hh.step c0 cn ck el cm9) (fun G' g a1 a2 a3 a4 a5 => hQ G' g a1 a2 ((eqS.sw hk cn).tr a3) (mv.2.tr a4) (eqRr.st.tr a5))
          refine ⟨m, ?_⟩
          unfold wJ35_siftDownUsingComparator_b61
          refine ⟨cm, rfl, hclt hc, s_ncmp hs c2 hc fun z z1 z2 => br_t (z2.mpr el) ⟨h1, vp_in_nI (by omega) (by omega), hob_tk c2.ob, hlet_i ?_⟩⟩
          rw [nI_clamp (by omega)]
          exact hm
        · refine ⟨0, ?_⟩
          unfold wJ35_siftDownUsingComparator_b61
          refine ⟨cm, rfl, hclt hc, s_ncmp hs c2 hc fun z z1 z2 => br_f (fun y => el (z2.mp y)) (s_q88 hh2 hk hs ?_)⟩
          have := hh2.put hu hs
          refine hQ _ f this.1 (hh.stop fun d d0 d1 d2 => ?_) eqS.rf this.2 eqRr.st
          exact iLb_nt el (cm9 d d0 d1 d2)
      obtain ⟨s1, a1, a2⟩ := h5 (2 * k + 1) (by omega) (by omega)
      have esh : nI k <<< ((1 : Int32) &&& 31) + (1 : Int32) = nI (2 * k + 1) := by
        rw [pk_shlN _ 1 (by decide) (by omega), show nI (k * 2 ^ 1) + (1 : Int32) = nI (k * 2 ^ 1 + 1) from nI_1 _]
        congr 1
        omega
      by_cases er : n ≤ 2 * k + 2
      · obtain ⟨m, hm⟩ := key (2 * k + 1) s1 (by omega) (by omega) (by omega) a1 a2 (fun d d0 d1 d2 => by
          rw [show d = 2 * k + 1 by omega]
          exact iLb_irr _)
        refine ⟨m + 1, ?_⟩
        show wJ35_siftDownUsingComparator_b5 Q (wJ35_siftDownUsingComparator_l5 Q m) _ _ _ _ _ _ _
        unfold wJ35_siftDownUsingComparator_b5
        rw [esh]
        refine br_f (fun z => e0 ((nI_leI (by omega) (by omega)).mp z)) ⟨hclt h1, vp_in_nI (by omega) (by omega), hlet_i ?_⟩
        rw [nI_clamp (by omega), a1, show nI (2 * k + 1) + (1 : Int32) = nI (2 * k + 2) from nI_1 _]
        exact hlet_i (br_t ((nI_leI (by omega) (by omega)).mpr er) hm)
      · obtain ⟨s2, b1, b2⟩ := h5 (2 * k + 2) (by omega) (by omega)
        by_cases el : iLb (f (2 * k + 2)) (f (2 * k + 1)) = true
        · obtain ⟨m, hm⟩ := key (2 * k + 2) s2 (by omega) (by omega) (by omega) b1 b2 (fun d d0 d1 d2 => by
            rcases (show d = 2 * k + 1 ∨ d = 2 * k + 2 by omega) with z | z
            · rw [z]
              exact iLb_asy el
            · rw [z]
              exact iLb_irr _)
          refine ⟨m + 1, ?_⟩
          show wJ35_siftDownUsingComparator_b5 Q (wJ35_siftDownUsingComparator_l5 Q m) _ _ _ _ _ _ _
          unfold wJ35_siftDownUsingComparator_b5
          rw [esh]
          refine br_f (fun z => e0 ((nI_leI (by omega) (by omega)).mp z)) ⟨hclt h1, vp_in_nI (by omega) (by omega), hlet_i ?_⟩
          rw [nI_clamp (by omega), a1, show nI (2 * k + 1) + (1 : Int32) = nI (2 * k + 2) from nI_1 _]
          refine hlet_i (br_f (fun z => er ((nI_leI (by omega) (by omega)).mp z)) ⟨hclt h1, vp_in_nI (by omega) (by omega), hlet_i ⟨cm, rfl, hclt hc, ?_⟩⟩)
          rw [nI_clamp (by omega), b1]
          refine s_ncmp a2 b2 hc fun z z1 z2 => br_f (fun y => ?_) ⟨hclt h1, vp_in_nI (by omega) (by omega), by rw [b1]; exact hlet_i hm⟩
          have := z2.mpr el
          exact absurd y (Int32.not_le.mpr this)
        · obtain ⟨m, hm⟩ := key (2 * k + 1) s1 (by omega) (by omega) (by omega) a1 a2 (fun d d0 d1 d2 => by
            rcases (show d = 2 * k + 1 ∨ d = 2 * k + 2 by omega) with z | z
            · rw [z]
              exact iLb_irr _
            · rw [z]
              exact el)
          refine ⟨m + 1, ?_⟩
          show wJ35_siftDownUsingComparator_b5 Q (wJ35_siftDownUsingComparator_l5 Q m) _ _ _ _ _ _ _
          unfold wJ35_siftDownUsingComparator_b5
          rw [esh]
          refine br_f (fun z => e0 ((nI_leI (by omega) (by omega)).mp z)) ⟨hclt h1, vp_in_nI (by omega) (by omega), hlet_i ?_⟩
          rw [nI_clamp (by omega), a1, show nI (2 * k + 1) + (1 : Int32) = nI (2 * k + 2) from nI_1 _]
          refine hlet_i (br_f (fun z => er ((nI_leI (by omega) (by omega)).mp z)) ⟨hclt h1, vp_in_nI (by omega) (by omega), hlet_i ⟨cm, rfl, hclt hc, ?_⟩⟩)
          rw [nI_clamp (by omega), b1]
          refine s_ncmp a2 b2 hc fun z z1 z2 => br_t ?_ hm
          exact Int32.not_lt.mp fun y => el (z2.mp y)
end P27
