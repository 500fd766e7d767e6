/-! ===== plain law 20: new lists, copies of lists ===== -/
set_option maxRecDepth 100000
def kA (o : gO) (G : hG) : Prop := hC G (hK G 1) = some (103, false) ∧ o (hK G 1) = (0, 0) ∧ hN G (hK G 1) = 0
theorem kA.fr {M : Nat × Nat → Prop} {o o' : gO} {G G' : hG} (h : kA o G) (hf : gFr M o G o' G') (h0 : ¬ M (0, 0)) : kA o' G' := by
  obtain ⟨h1, h2, h3⟩ := h
  unfold kA
  rw [hf.2]
  exact ⟨hf.C h1, (hf.O h1).trans h2, (hf.S h1 h2 h0).N h3⟩
section P20
variable {o o' : gO} {G G' : hG} {u us : Nat × Nat}
theorem s_newAL {Q : hG → Prop} {q : Nat} (u : Nat × Nat) (ha : kA o G) (hq : hfr G q) (hQ : ∀ G', pALr (gU o q u) G' u q (hK G' 1) [] → (∀ M, gFr M o G (gU o q u) G') → Q G') : wJ6_init Q q (hnw G q 18 0) := by
  have c : hC (hnw G q 18 0) q = some (18, true) := by rw [hC_nw, if_pos rfl]
  have f1 : ∀ M, gFr M o G (gU o q u) (hnw G q 18 0) := fun M => gFr.rf.nw u hq
  unfold wJ6_init wJ5_init_c18 wJ2_init_c18
  refine ⟨c, hlet_i ⟨c, hlet_i ?_⟩⟩
  have f : ∀ M, gFr M o G (gU o q u) (hsR (hsI (hnw G q 18 0) q 0 0) q 1 (some (hK (hsI (hnw G q 18 0) q 0 0) 1))) := fun M => ((f1 M).sI (Or.inl hq)).sR (Or.inl hq)
  have ha' := ha.fr (f gNo) (fun z => z)
  have hkq : q ≠ hK G 1 := fun z => by
    have := ha.1
    rw [← z, hq] at this
    cases this
  refine hQ _ ⟨c, gU_s, ?_, fun y hy => (nomatch hy), by rw [hR_sR, if_pos ⟨rfl, rfl⟩]; rfl, hkq, Or.inl ⟨rfl, rfl, ha'.1, ha'.2.1, ha'.2.2⟩⟩ f
  rw [hI_sR, hI_sI, if_neg (fun z => by have := z.2; omega), hI_nw, if_pos rfl]
  rfl
theorem s_toArray {Q : hG → Option Nat → Prop} {a : Nat} {L : List Nat} (h : pAL o G u a L) (hQ : ∀ q G', hfr G q → hC G' q = some (103, true) → hN G' q = L.length → (∀ k, k < L.length → hR G' q k = L[k]?) → (∀ M w, gFr M o G (gU o q w) G') → Q G' (some q)) : wJ6_toArray Q a G := by
  obtain ⟨r, h⟩ := h
  have hl := h.len
  obtain ⟨h1, h2, h3, h4, h5, h6, h7⟩ := h
  unfold wJ6_toArray
  refine ⟨hclt h1, hlet_i ⟨hclt h1, r, h5, ?_⟩⟩
  rw [h3]
  rcases h7 with ⟨e1, e2, e3, e4, e5⟩ | ⟨e1, e2, e3, e4, e5, e6⟩
  · unfold wJ33_copyOf_2
    refine ⟨Or.inr e2, ?_⟩
    unfold wJ33_copyOf_3
    refine br_t rfl ⟨nI_pos (by omega), by rw [nI_clamp (by omega)]; omega, fun q hq => hlet_i ?_⟩
    have hrq : r ≠ q := fun z => by
      rw [z, hq] at e3
      cases e3
    have c1 : hC (hnw G q 103 (nI L.length).toNatClampNeg) r = some (103, false) := by rw [hC_nw, if_neg hrq]; exact e3
    have n1 : hN (hnw G q 103 (nI L.length).toNatClampNeg) r = 0 := by rw [hN_nw, if_neg hrq]; exact e5
    have hL : L.length = 0 := by rw [e1]; rfl
    refine ⟨hclf c1, Or.inr ⟨c1, by rw [hC_nw, if_pos rfl], by decide, by decide, ?_, by rw [n1]; decide, by rw [hN_nw, if_pos rfl]; exact Nat.zero_le _, ?_⟩⟩
    · rw [n1, hL]
      decide
    · refine hQ q _ hq (by rw [hC_nw, if_pos rfl]) (by rw [hN_nw, if_pos rfl, nI_clamp (by omega)]) (fun k hk => by omega) fun M w => gFr.rf.nw w hq
  · refine s_copyOf e1 (by omega) (by omega) (fun i hi y hy => ?_) (fun q hq => ?_)
    · rw [e6 i (by omega)] at hy
      exact h4 y (List.mem_of_getElem? hy)
    · have hm : min (hN G r) L.length = L.length := Nat.min_eq_right e3
      rw [hm]
      refine hQ q _ hq (by rw [hC_cpR, hC_nw, if_pos rfl]) (by rw [hN_cpR, hN_nw, if_pos rfl]) (fun k hk => ?_) fun M w => (gFr.rf.nw w hq).cpR (Or.inl hq)
      rw [hR_cpR, if_pos rfl, pk_cpy_in (Nat.zero_le _) (by omega), show 0 + (k - 0) = k by omega]
      exact e6 k hk
theorem hMx10 {n : Nat} (h : n ≤ 1000) : hMx (10 : Int32) (nI n) = nI (max 10 n) := by
  unfold hMx
  rw [show (10 : Int32) = nI 10 from rfl]
  by_cases z : 10 < n
  · rw [if_pos (nI_lt (a := 10) z (by omega)), Nat.max_eq_right (by omega)]
  · rw [if_neg (nI_nlt (b := n) (a := 10) (by omega) (by decide)), Nat.max_eq_left (by omega)]
theorem s_aladdAll {Q : hG → Int32 → Prop} {a b : Nat} {L : List Nat} (ha : kA o G) (h : pALr o G u a (hK G 1) []) (hs : pAL o G us b L) (hu0 : u ≠ (0, 0)) (hl : L.length ≤ 24) (hQ : ∀ o' G' z, pAL o' G' u a L → gFr (gOnly u) o G o' G' → Q G' z) : wJ6_addAll Q a (some b) G := by
  have fu0 : ¬ gOnly u (0, 0) := fun z => hu0 z.symm
  have hbc : hC G b = some (18, true) := by
    obtain ⟨r, h⟩ := hs
    exact h.1
  have hLo : ∀ y, y ∈ L → hOb G hNob y := by
    obtain ⟨r, h⟩ := hs
    exact h.2.2.2.1
  unfold wJ6_addAll
  refine ⟨b, rfl, hclt hbc, s_toArray hs fun q G1 hq c1 n1 g1 f1 => ?_⟩
  have k1 : hK G1 = hK G := (f1 gNo u).2
  have ca1 : hC G1 a = some (18, true) := (f1 gNo u).C h.1
  have oa1 : gU o q u a = u := ((f1 gNo u).O h.1).trans h.2.1
  have sa1 := (f1 gNo u).S h.1 h.2.1 (fun z => z)
  have aq : a ≠ q := fun z => by
    have := h.1
    rw [z, hq] at this
    cases this
  refine ⟨hclt ca1, ca1, hlet_i ⟨q, rfl, hclt c1, ?_⟩⟩
  obtain ⟨G2, hG2⟩ : ∃ G2, G2 = hsI G1 a 0 (hI G1 a 0 + 1) := ⟨_, rfl⟩
  rw [← hG2]
  have f2 : gFr (gOnly u) o G (gU o q u) G2 := by
    rw [hG2]
    exact (f1 _ u).sI (Or.inr h.2.1)
  have ha2 := ha.fr f2 fu0
  have k2 : hK G2 = hK G := f2.2
  have ca2 : hC G2 a = some (18, true) := f2.C h.1
  have cq2 : hC G2 q = some (103, true) := by rw [hG2]; exact c1
  have nq2 : hN G2 q = L.length := by rw [hG2]; exact n1
  have gq2 : ∀ k, k < L.length → hR G2 q k = L[k]? := by rw [hG2]; exact g1
  have ra2 : hR G2 a 1 = some (hK G2 1) := by
    rw [k2, hG2]
    exact sa1.R h.2.2.2.2.1
  have ia2 : hI G2 a 2 = nI 0 := by
    rw [hG2, hI_sI, if_neg (fun z => by cases z.2)]
    exact sa1.I h.2.2.1
  have hak : a ≠ hK G2 1 := by
    rw [k2]
    exact h.2.2.2.2.2.1
  rw [nq2]
  by_cases hL : L.length = 0
  · have e : L = [] := List.eq_nil_of_length_eq_zero hL
    refine br_t (by rw [hL]; rfl) (hQ _ G2 0 ⟨hK G2 1, ca2, oa1, by rw [hL]; exact ia2, fun y hy => (by rw [e] at hy; cases hy), ra2, hak, Or.inl ⟨e, rfl, ha2.1, ha2.2.1, ha2.2.2⟩⟩ f2)
  · refine br_f (nI_ne0 (by omega) (by omega)) ⟨hclt ca2, hlet_i ⟨_, ra2, hclf ha2.1, hclt ca2, ?_⟩⟩
    rw [ha2.2.2, ia2]
    refine br_f (nI_nle (by omega) (by omega)) ⟨hclt ca2, ?_⟩
    rw [nI_add, Nat.zero_add]
    unfold wJ6_grow_2
    refine ⟨hclt ca2, hlet_i ⟨_, ra2, hclf ha2.1, ?_⟩⟩
    rw [ha2.2.2]
    refine br_f (by decide) ⟨hclt ca2, hlet_i (br_t ra2 ?_)⟩
    rw [hMx10 (by omega), nI_clamp (by omega)]
    refine ⟨nI_pos (by omega), by omega, fun p hp => hlet_i ?_⟩
    have ap : a ≠ p := fun z => by
      rw [z, hp] at ca2
      cases ca2
    have qp : q ≠ p := fun z => by
      rw [z, hp] at cq2
      cases cq2
    refine ⟨by rw [hC_nw, if_neg ap]; exact ca2, hlet_i ?_⟩
    unfold wJ6_addAll_b56
    have cq3 : hC (hsR (hnw G2 p 103 (max 10 L.length)) a 1 (some p)) q = some (103, true) := by rw [hC_sR, hC_nw, if_neg qp]; exact cq2
    have cp3 : hC (hsR (hnw G2 p 103 (max 10 L.length)) a 1 (some p)) p = some (103, true) := by rw [hC_sR, hC_nw, if_pos rfl]
    have rq3 : hR (hsR (hnw G2 p 103 (max 10 L.length)) a 1 (some p)) q = hR G2 q := funext fun j => by rw [hR_sR, if_neg (fun z => aq z.1.symm), hR_nw, if_neg qp]
    have f3 : gFr (gOnly u) o G (gU (gU o q u) p u) (hsR (hnw G2 p 103 (max 10 L.length)) a 1 (some p)) := (f2.nw u hp).sR (Or.inr h.2.1)
    refine ⟨p, rfl, ?_⟩
    rw [rq3, show (0 : Int32).toNatClampNeg = 0 from rfl, nI_clamp (by omega), nI_clamp (by omega), nI_add]
    refine ⟨cq3, cp3, by decide, nI_pos (by decide), nI_pos (by omega), ?_, ?_, fun i hi y hy => ?_, hlet_i ⟨?_, hlet_i ?_⟩⟩
    · rw [hN_sR, hN_nw, if_neg qp, nq2]
      omega
    · rw [hN_sR, hN_nw, if_pos rfl]
      omega
    · rw [Nat.zero_add, gq2 i hi] at hy
      exact (hLo y (List.mem_of_getElem? hy)).fr f3
    · rw [hC_cpR, hC_sR, hC_nw, if_neg ap]
      exact ca2
    · have f4 : gFr (gOnly u) o G (gU (gU o q u) p u) (hsI (hcpR (hsR (hnw G2 p 103 (max 10 L.length)) a 1 (some p)) p 0 (hR G2 q) 0 L.length) a 2 (nI (0 + L.length))) := (f3.cpR (Or.inl (f2.fresh hp))).sI (Or.inr h.2.1)
      refine hQ _ _ 1 ⟨p, ?_, ?_, ?_, fun y hy => (hLo y hy).fr f4, ?_, ap, Or.inr ⟨?_, gU_s, ?_, ?_, ?_, fun k hk => ?_⟩⟩ f4
      · rw [hC_sI, hC_cpR, hC_sR, hC_nw, if_neg ap]
        exact ca2
      · rw [gU_n ap]
        exact oa1
      · rw [hI_sI, if_pos ⟨rfl, rfl⟩, Nat.zero_add]
      · rw [hR_sI, hR_cpR, if_neg ap, hR_sR, if_pos ⟨rfl, rfl⟩]
      · rw [hC_sI, hC_cpR]
        exact cp3
      · rw [hN_sI, hN_cpR, hN_sR, hN_nw, if_pos rfl]
        omega
      · rw [hN_sI, hN_cpR, hN_sR, hN_nw, if_pos rfl]
        omega
      · rw [hN_sI, hN_cpR, hN_sR, hN_nw, if_pos rfl]
        omega
      · rw [hR_sI, hR_cpR, if_pos rfl, pk_cpy_in (Nat.zero_le _) (by omega), show 0 + (k - 0) = k by omega]
        exact gq2 k hk
/-- a new Kept -/
def pK0 (o : gO) (G : hG) (u : Nat × Nat) (a most : Nat) : Prop := hC G a = some (3, true) ∧ o a = (0, 0) ∧ hI G a 1 = nI most ∧ ∃ b, hR G a 0 = some b ∧ pALr o G u b (hK G 1) []
theorem pK0.fr {M : Nat × Nat → Prop} {a most : Nat} (h : pK0 o G u a most) (hf : gFr M o G o' G') (hu : ¬ M u) (h0 : ¬ M (0, 0)) : pK0 o' G' u a most := by
  obtain ⟨h1, h2, h3, b, h4, h5⟩ := h
  have s := hf.S h1 h2 h0
  refine ⟨hf.C h1, (hf.O h1).trans h2, s.I h3, b, s.R h4, ?_⟩
  rw [hf.2]
  exact h5.fr hf hu h0
theorem s_newKept {P : Nat → hG → Prop} (u : Nat × Nat) {most : Nat} (ha : kA o G) (hQ : ∀ q o' G', hfr G q → pK0 o' G' u q most → (∀ M, gFr M o G o' G') → P q G') : ∀ q, hfr G q → hlet (hnw G q 3 0) fun G2 => wX3_init (fun G3 => P q G3) q (nI most) G2 := by
  intro q hq
  refine hlet_i ?_
  have f1 : ∀ M, gFr M o G (gU o q (0, 0)) (hnw G q 3 0) := fun M => gFr.rf.nw (0, 0) hq
  have ha1 := ha.fr (f1 gNo) (fun z => z)
  have cq : hC (hnw G q 3 0) q = some (3, true) := by rw [hC_nw, if_pos rfl]
  unfold wX3_init
  intro p hp
  have pq : q ≠ p := fun z => by
    have := hp
    rw [← z] at this
    have h9 := cq
    rw [this] at h9
    cases h9
  refine hlet_i (s_newAL u ha1 hp fun G3 a1 a2 => ?_)
  have cq3 := (a2 gNo).C cq
  refine ⟨cq3, hlet_i ⟨cq3, hlet_i ?_⟩⟩
  have f3 : ∀ M, gFr M o G (gU (gU o q (0, 0)) p u) (hsI (hsR G3 q 0 (some p)) q 1 (nI most)) := fun M => (((f1 M).tr (a2 M)).sR (Or.inl hq)).sI (Or.inl hq)
  have f4 : gFr (gOnly (0, 0)) (gU (gU o q (0, 0)) p u) G3 (gU (gU o q (0, 0)) p u) (hsI (hsR G3 q 0 (some p)) q 1 (nI most)) := (gFr.rf.sR (Or.inr (by rw [gU_n pq]; exact gU_s))).sI (Or.inr (by rw [gU_n pq]; exact gU_s))
  refine hQ q _ _ hq ⟨cq3, by rw [gU_n pq]; exact gU_s, by rw [hI_sI, if_pos ⟨rfl, rfl⟩], p, by rw [hR_sI, hR_sR, if_pos ⟨rfl, rfl⟩], ?_⟩ f3
  obtain ⟨x1, x2, x3, x4, x5, x6, x7⟩ := a1
  refine ⟨x1, x2, ?_, fun y hy => (nomatch hy), ?_, x6, ?_⟩
  · rw [hI_sI, if_neg (fun z => pq z.1.symm)]
    exact x3
  · rw [hR_sI, hR_sR, if_neg (fun z => pq z.1.symm)]
    exact x5
  · rcases x7 with ⟨e1, e2, e3, e4, e5⟩ | ⟨e1, e2, e3, e4, e5, e6⟩
    · exact Or.inl ⟨e1, rfl, e3, e4, e5⟩
    · exact Or.inr ⟨e1, e2, e3, e4, e5, fun k hk => (nomatch hk)⟩
/-- take: the same content -/
theorem s_take {Q : hG → Prop} {a b most m2 : Nat} {V : List Mt} (ha : kA o G) (h : pK0 o G u a most) (hs : pKt o G us b m2 V) (hu0 : u ≠ (0, 0)) (hm : most ≤ 24) (hl : V.length ≤ most) (hQ : ∀ o' G', pKt o' G' u a most V → gFr (gOnly u) o G o' G' → Q G') : wX3_take Q a b G := by
  have fu0 : ¬ gOnly u (0, 0) := fun z => hu0 z.symm
  obtain ⟨h1, h2, h3, c, h4, h5⟩ := h
  obtain ⟨d, L, g⟩ := hs
  unfold wX3_take
  refine ⟨hclt h1, hlet_i ⟨hclt g.1, hlet_i ⟨c, h4, hclt h5.1, ?_⟩⟩⟩
  rw [g.2.2.1]
  have g6 := g.2.2.2.2.2.1
  refine s_aladdAll ha h5 g.2.2.2.2.1 hu0 (by rw [g6.1]; omega) fun o' G' z a1 a2 => ?_
  have s := a2.S h1 h2 fu0
  exact hQ o' G' ⟨c, L, a2.C h1, (a2.O h1).trans h2, s.R h4, s.I h3, a1, g6.fr a2 fu0, hm, hl⟩ a2
end P20
