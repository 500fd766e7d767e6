/-! ===== plain law 19: new maps, copies of maps and sets ===== -/
set_option maxRecDepth 100000
theorem s_nlz {Q : hG → Int32 → Prop} {G : hG} {x : Int32} (hQ : ∀ z, Q G z) : wJ20_numberOfLeadingZeros Q x G := by
  have b73 : ∀ a b, wJ20_numberOfLeadingZeros_b73 Q a b G := fun a b => hQ _
  have b61 : ∀ a b, wJ20_numberOfLeadingZeros_b61 Q a b G := fun a b => ⟨fun _ => b73 _ _, fun _ => hlet_i (b73 _ _)⟩
  have b48 : ∀ a b, wJ20_numberOfLeadingZeros_b48 Q a b G := fun a b => ⟨fun _ => b61 _ _, fun _ => hlet_i (b61 _ _)⟩
  have b33 : ∀ a b, wJ20_numberOfLeadingZeros_b33 Q a b G := fun a b => ⟨fun _ => b48 _ _, fun _ => hlet_i (b48 _ _)⟩
  have b14 : ∀ a, wJ20_numberOfLeadingZeros_b14 Q a G := fun a => hQ _
  exact ⟨fun _ => ⟨fun _ => b33 _ _, fun _ => hlet_i (b33 _ _)⟩, fun _ => ⟨fun _ => b14 _, fun _ => b14 _⟩⟩
theorem s_red {Q : hG → Int32 → Prop} {G : hG} {x : Int32} (hQ : ∀ z, Q G z) : wJ1_computeRedLevel Q x G := s_nlz fun z => hQ _
section P19
variable {o o' : gO} {G G' : hG} {u us w : Nat × Nat} {t ts it : Nat} {E Ea : List En}
def gAny (a b c : Nat × Nat) : Nat × Nat → Prop := fun x => x = a ∨ x = b ∨ x = c
theorem s_newMap {Q : hG → Prop} {q : Nat} (u : Nat × Nat) (hq : hfr G q) (hQ : ∀ G', pMp (gU o q u) G' u q [] → (∀ M, gFr M o G (gU o q u) G') → Q G') : wJ1_init Q q (hnw G q 9 0) := by
  have c : hC (hnw G q 9 0) q = some (9, true) := by rw [hC_nw, if_pos rfl]
  unfold wJ1_init wJ0_init_c9
  refine ⟨c, hlet_i ⟨c, hlet_i ⟨c, hlet_i ?_⟩⟩⟩
  have f : ∀ M, gFr M o G (gU o q u) (hsR (hsI (hsI (hnw G q 9 0) q 4 0) q 5 0) q 2 none) := fun M => (((gFr.rf.nw u hq).sI (Or.inl hq)).sI (Or.inl hq)).sR (Or.inl hq)
  have r0 : ∀ j, hR (hsR (hsI (hsI (hnw G q 9 0) q 4 0) q 5 0) q 2 none) q j = none := fun j => by
    rw [hR_sR]
    by_cases e : q = q ∧ j = 2
    · rw [if_pos e]
    · rw [if_neg e, hR_sI, hR_sI, hR_nw, if_pos rfl]
  refine hQ _ ⟨[], fun _ => [], fun _ => none, fun _ => [], none, ⟨c, gU_s, ?_, r0 2, r0 3, by simp, by simp, fun n hn => (nomatch hn), TI.nil, ⟨fun x e => ?_, fun x e => ?_, fun x e => ?_⟩⟩, rfl, List.Pairwise.nil⟩ f
  · rw [hI_sR, hI_sI, if_neg (fun z => by have := z.2; omega), hI_sI, if_pos ⟨rfl, rfl⟩]
    rfl
  · rw [r0] at e
    cases e
  · rw [r0] at e
    cases e
  · rw [r0] at e
    cases e
theorem s_bfs {Q : hG → Prop} {ci : Nat} {dv : Option Nat} (h : pMp o G u t []) (hI9 : pIM o G us ts [] Ea it w ci) (huw : u ≠ w) (husw : us ≠ w) (husu : us ≠ u) (hw0 : w ≠ (0, 0)) (hu0 : u ≠ (0, 0)) (hk : bKd ci dv Ea) (h1 : 1 ≤ Ea.length) (h2 : Ea.length ≤ 63) (hQ : ∀ o' G', pMp o' G' u t Ea → pIM o' G' us ts Ea [] it w ci → gFr (gAny u us w) o G o' G' → Q G') : wJ1_buildFromSorted Q t (nI Ea.length) (some it) none dv G := by
  have f0 : ¬ gOnly w (0, 0) := fun z => hw0 z.symm
  have fw : ¬ gOnly w u := fun z => huw z
  have fu0 : ¬ gOnly u (0, 0) := fun z => hu0 z.symm
  have hpw : Ea.Pairwise eLt := by
    obtain ⟨L1, L2, k, v, sub, root, -, -, -, g4, -⟩ := hI9
    simpa using g4
  obtain ⟨L, k, v, sub, root, g1, g2, g3⟩ := h
  have hL : L = [] := by
    cases L with
    | nil => rfl
    | cons a l => cases g2
  subst hL
  have f1 : gFr (gOnly u) o G o (hsI G t 4 (nI Ea.length)) := gFr.rf.sI (Or.inr g1.ow)
  have hI2 := hI9.fr f1 husu (fun z => huw z.symm) fu0
  unfold wJ1_buildFromSorted
  refine ⟨g1.c, hlet_i (s_red fun z => ⟨hclt g1.c, ?_⟩)⟩
  rw [show nI Ea.length - (1 : Int32) = nI (0 + Ea.length - 1) by rw [show (1 : Int32) = nI 1 from rfl, nI_sub h1, Nat.zero_add]]
  refine s_bL5 _ o _ u us w t ts it ci dv 0 z 0 [] Ea [] huw husw husu hw0 hu0 g1.c hk (by simpa using hI2) h1 h2 (by omega) fun o' G' N kk vv sub' r a1 a2 a3 a4 a5 => ?_
  have ct : hC G' t = some (9, true) := a5.C g1.c
  have st := a5.S (G := hsI G t 4 (nI Ea.length)) g1.c g1.ow fw
  have ot : o' t = u := (a5.O (G := hsI G t 4 (nI Ea.length)) g1.c).trans g1.ow
  have tN : t ∉ N := fun z => by
    have : hC G t = none := a4 t z
    rw [g1.c] at this
    cases this
  refine ⟨ct, hlet_i ?_⟩
  have f3 : gFr (gOnly u) o' G' o' (hsR G' t 3 (some r)) := gFr.rf.sR (Or.inr ot)
  have rb : ∀ b j, b ≠ t → hR (hsR G' t 3 (some r)) b j = hR G' b j := fun b j z => by rw [hR_sR, if_neg (fun w => z w.1)]
  have rt9 : ∀ j, j ≠ 3 → hR (hsR G' t 3 (some r)) t j = hR G t j := fun j z => by
    rw [hR_sR, if_neg (fun w => z w.2)]
    exact congrFun st.2.2.2 j
  have bt : ∀ b, b ∈ N → b ≠ t := fun b hb z => tN (by rw [← z]; exact hb)
  have fa : gFr (gAny u us w) o G o' (hsR G' t 3 (some r)) := ((f1.mono fun x z => Or.inl z).tr (a5.mono fun x z => Or.inr (Or.inr z))).tr (f3.mono fun x z => Or.inl z)
  have hlen : N.length = Ea.length := by
    rw [← a3, List.length_map]
  refine hQ o' _ ⟨N, kk, vv, sub', some r, ⟨ct, ot, ?_, (rt9 2 (by decide)).trans g1.cmp, by rw [hR_sR, if_pos ⟨rfl, rfl⟩], tN, by omega, fun n hn => ?_, a2.2.congr (fun n hn => rb n 2 (bt n hn)) (fun n hn => rb n 3 (bt n hn)) (fun n hn => rb n 4 (bt n hn)), ?_⟩, a3.symm, hpw⟩ ?_ fa
  · rw [hI_sR, st.2.1, hI_sI, if_pos ⟨rfl, rfl⟩, hlen]
  · obtain ⟨b1, b2, ⟨a, b3, b4⟩, b5, b6⟩ := a2.1 n hn
    exact ⟨b1, b2, ⟨a, (rb n 0 (bt n hn)).trans b3, b4.fr f3 fu0⟩, (rb n 1 (bt n hn)).trans b5, b6⟩
  · have key : ∀ (j ci : Nat), j ≠ 3 → (∀ q, hR G t j = some q → hC G q = some (ci, true) ∧ o q = (0, 0) ∧ hR G q 0 = some t) → (∀ q', hR (hsR G' t 3 (some r)) t j = some q' → hC (hsR G' t 3 (some r)) q' = some (ci, true) ∧ o' q' = (0, 0) ∧ hR (hsR G' t 3 (some r)) q' 0 = some t) := by
      intro j ci hj g q' e
      rw [rt9 j hj] at e
      exact ((pVc.fr (pVc.fr (g q' e) f1 fu0) a5 f0).fr f3 fu0)
    exact ⟨key 6 16 (by decide) g1.vw.1, key 7 14 (by decide) g1.vw.2.1, key 1 15 (by decide) g1.vw.2.2⟩
  · have := a1.fr f3 husu (fun z => huw z.symm) fu0
    simpa using this
theorem s_putAll {Q : hG → Prop} (h : pMp o G u t []) (hs : pMp o G us ts E) (w : Nat × Nat) (huw : u ≠ w) (husw : us ≠ w) (husu : us ≠ u) (hw0 : w ≠ (0, 0)) (hu0 : u ≠ (0, 0)) (hus0 : us ≠ (0, 0)) (h2 : E.length ≤ 63) (hQ : ∀ o' G', pMp o' G' u t E → pMp o' G' us ts E → gFr (gAny u us w) o G o' G' → Q G') : wJ1_putAll Q t (some ts) G := by
  have fu0 : ¬ gOnly u (0, 0) := fun z => hu0 z.symm
  have fus0 : ¬ gOnly us (0, 0) := fun z => hus0 z.symm
  have hsz : hI G t 4 = 0 := by
    obtain ⟨L, k, v, sub, root, g1, g2, g3⟩ := h
    have hL : L = [] := by
      cases L with
      | nil => rfl
      | cons a l => cases g2
    subst hL
    exact g1.sz
  have hcm : ∀ {o : gO} {G : hG} {u : Nat × Nat} {t : Nat} {E : List En}, pMp o G u t E → hR G t 2 = none := by
    rintro o G u t E ⟨L, k, v, sub, root, g1, g2, g3⟩
    exact g1.cmp
  unfold wJ1_putAll
  refine ⟨ts, rfl, hclt hs.c, s_msize hs ⟨hclt h.c, br_t hsz (br_c (fun c => ?_) (fun c => ?_))⟩⟩
  · have hE : E = [] := by
      have := (nI_e0 (by omega)).mp c
      exact List.eq_nil_of_length_eq_zero this
    subst hE
    unfold wJ1_putAll_b77 wJ0_putAll_c9
    refine ⟨hclt h.c, ts, rfl, hclt hs.c, s_entrySet hs hus0 fun o1 G1 q a1 a2 a3 => ⟨q, rfl, hclt a2.1, s_esIt a1 a2 w fun o2 G2 i b1 b2 b3 => ⟨i, rfl, hclt b2.ic, s_hasN13 b2 (fun _ => br_t rfl ?_) (fun z => absurd rfl z)⟩⟩⟩
    refine hQ o2 G2 ((h.fr a3 (fun z => husu z.symm) fus0).fr (b3 gNo) (fun z => z) (fun z => z)) (by simpa using b2.mp) ((a3.mono fun x z => Or.inr (Or.inl z)).tr (b3 _))
  · have hE : 1 ≤ E.length := by
      rcases Nat.eq_zero_or_pos E.length with z | z
      · rw [z] at c
        exact absurd rfl c
      · exact z
    refine ⟨hclt hs.c, br_f (by decide) ⟨hclt h.c, hlet_i ⟨hclt hs.c, hclt hs.c, ?_⟩⟩⟩
    unfold wJ1_comparator
    refine ⟨hclt hs.c, hlet_i ?_⟩
    unfold wJ11_equals
    refine br_t ((hcm h).trans (hcm hs).symm) (br_f (by decide) ⟨hclt h.c, h.c, hlet_i ?_⟩)
    obtain ⟨G1, hG1⟩ : ∃ G1, G1 = hsI G t 5 (hI G t 5 + 1) := ⟨_, rfl⟩
    rw [← hG1]
    have ot : o t = u := by
      obtain ⟨L, k, v, sub, root, g1, g2, g3⟩ := h
      exact g1.ow
    have f1 : gFr (gOnly u) o G o G1 := by
      rw [hG1]
      exact gFr.rf.sI (Or.inr ot)
    have hm : pMp o G1 u t [] := by
      obtain ⟨L, k, v, sub, root, g1, g2, g3⟩ := h
      have hL : L = [] := by
        cases L with
        | nil => rfl
        | cons a l => cases g2
      subst hL
      refine ⟨[], k, v, sub, root, g1.up hu0 f1 ?_ (by rw [hG1]; rfl) (by rw [hG1]; exact g1.rt) (fun n hn => (nomatch hn)) (fun n hn => (nomatch hn)) (fun n hn => (nomatch hn)) (g1.ti.congr (fun n hn => (nomatch hn)) (fun n hn => (nomatch hn)) (fun n hn => (nomatch hn))) (by rw [hG1]; rfl) (by rw [hG1]; rfl) (by rw [hG1]; rfl), rfl, g3⟩
      rw [hG1, hI_sI, if_neg (fun z => by have := z.2; omega)]
      exact g1.sz
    have hs1 := hs.fr f1 (fun z => husu z) fu0
    refine ⟨hclt hs1.c, s_entrySet hs1 hus0 fun o2 G2 q a1 a2 a3 => ⟨q, rfl, hclt a2.1, s_esIt a1 a2 w fun o3 G3 i b1 b2 b3 => ?_⟩⟩
    have hm2 := (hm.fr a3 (fun z => husu z.symm) fus0).fr (b3 gNo) (fun z => z) (fun z => z)
    refine ⟨hclt hm2.c, s_bfs hm2 b2 huw husw husu hw0 hu0 (Or.inl ⟨rfl, rfl⟩) hE h2 fun o4 G4 c1 c2 c3 => ?_⟩
    exact hQ o4 G4 c1 (by simpa using c2.mp) ((((f1.mono fun x z => Or.inl z).tr (a3.mono fun x z => Or.inr (Or.inl z))).tr (b3 _)).tr c3)
theorem s_nIt {Q : hG → Option Nat → Prop} {s : Nat} {V : List Wd} (h : pNs o G u s V) (hu : u ≠ (0, 0)) (w : Nat × Nat) (hQ : ∀ o1 G1 o' G' q t, pNs o1 G1 u s V → gFr (gOnly u) o G o1 G1 → hR G s 0 = some t → hfr G1 q → pIM o' G' u t [] (eNs (hK G' 0) V) q w 11 → (∀ M, gFr M o1 G1 o' G') → Q G' (some q)) : wJ4_iterator Q s G := by
  have h0 : ¬ gOnly u (0, 0) := fun z => hu z.symm
  have hh := h
  obtain ⟨h1, h2, t, h3, h4⟩ := h
  unfold wJ4_iterator
  refine ⟨hclt h1, hlet_i ⟨t, h3, hclt h4.c, s_navKS h4 hu fun o1 G1 x a1 a2 a3 => ⟨x, rfl, hclt a2.1, s_ksIt a1 a2 w fun o2 G2 i b1 b2 b3 => ?_⟩⟩⟩
  have s9 := a3.S h1 h2 h0
  refine hQ o1 G1 o2 G2 i t ⟨a3.C h1, (a3.O h1).trans h2, t, s9.R h3, by rw [a3.2]; exact a1⟩ a3 h3 b1 ?_ b3
  rw [(b3 gNo).2, a3.2]
  exact b2
theorem s_naddAll {Q : hG → Int32 → Prop} {s ss : Nat} {V : List Wd} (h : pNs o G u s []) (hs : pNs o G us ss V) (w : Nat × Nat) (huw : u ≠ w) (husw : us ≠ w) (husu : us ≠ u) (hw0 : w ≠ (0, 0)) (hu0 : u ≠ (0, 0)) (hus0 : us ≠ (0, 0)) (h2 : V.length ≤ 63) (hQ : ∀ o' G' z, pNs o' G' u s V → pNs o' G' us ss V → gFr (gAny u us w) o G o' G' → Q G' z) : wJ4_addAll Q s (some ss) G := by
  have fu0 : ¬ gOnly u (0, 0) := fun z => hu0 z.symm
  have fus0 : ¬ gOnly us (0, 0) := fun z => hus0 z.symm
  have fa0 : ¬ gAny u us w (0, 0) := fun z => by
    rcases z with z | z | z
    · exact hu0 z.symm
    · exact hus0 z.symm
    · exact hw0 z.symm
  have hh := h
  obtain ⟨h1, h1', t, h3, h4⟩ := h
  have hcm : ∀ {o : gO} {G : hG} {u : Nat × Nat} {t : Nat} {E : List En}, pMp o G u t E → hR G t 2 = none := by
    rintro o G u t E ⟨L, k, v, sub, root, g1, g2, g3⟩
    exact g1.cmp
  unfold wJ4_addAll
  refine ⟨hclt h1, hlet_i ⟨t, h3, hclt h4.c, s_msize h4 (br_t rfl ⟨ss, rfl, hclt hs.1, s_nsize hs (br_c (fun c => ?_) (fun c => ?_))⟩)⟩⟩
  · have hV : V = [] := by
      apply List.eq_nil_of_length_eq_zero
      have := (nI_leI (a := V.length) (b := 0) (by omega) (by decide)).mp c
      omega
    subst hV
    unfold wJ4_addAll_b76 wJ2_addAll_c17
    refine ⟨hclt h1, ss, rfl, hclt hs.1, s_nIt hs hus0 w fun o1 G1 o2 G2 i ts a1 a2 a3 a4 a5 a6 => ⟨i, rfl, hclt a5.ic, s_hasN11 a5 (fun _ => br_t rfl ⟨hft0, ?_⟩) (fun z => absurd rfl z)⟩⟩
    exact hQ o2 G2 0 ((hh.fr a2 (fun z => husu z.symm) fus0).fr (a6 gNo) (fun z => z) (fun z => z)) (a1.fr (a6 gNo) (fun z => z) (fun z => z)) ((a2.mono fun x z => Or.inr (Or.inl z)).tr (a6 _))
  · have hV : 1 ≤ V.length := by
      rcases Nat.eq_zero_or_pos V.length with z | z
      · rw [z] at c
        exact absurd (by decide) c
      · exact z
    have hs' := hs
    obtain ⟨b1, b2, ts, b3, b4⟩ := hs'
    refine ⟨hclt b1, br_f (by decide) ⟨hclt h1, hlet_i ⟨t, h3, hclt h4.c, br_f (by decide) ⟨hclt h4.c, hclt b1, hclt b1, ?_⟩⟩⟩⟩
    unfold wJ4_comparator wJ1_comparator
    refine ⟨hclt b1, hlet_i ⟨ts, b3, hclt b4.c, hclt b4.c, hlet_i ⟨hclt h4.c, hclt h4.c, hlet_i ?_⟩⟩⟩
    unfold wJ11_equals
    refine br_t ((hcm b4).trans (hcm h4).symm) (br_f (by decide) ⟨hclt h4.c, ?_⟩)
    unfold wJ1_addAllForTreeSet
    refine ⟨ss, rfl, hclt b1, s_nsize hs ⟨hclt b1, s_nIt hs hus0 w fun o1 G1 o2 G2 i ts' a1 a2 a3 a4 a5 a6 => ?_⟩⟩
    have hm2 := (h4.fr a2 (fun z => husu z.symm) fus0).fr (a6 gNo) (fun z => z) (fun z => z)
    have hK9 : hK G2 0 = hK G 0 := by rw [(a6 gNo).2, a2.2]
    rw [hK9] at a5
    have hlen : (eNs (hK G 0) V).length = V.length := List.length_map ..
    refine ⟨hclt hm2.c, ?_⟩
    rw [← hlen]
    refine s_bfs hm2 a5 huw husw husu hw0 hu0 (Or.inr ⟨rfl, _, rfl, fun e he => ?_⟩) (by omega) (by omega) fun o4 G4 c1 c2 c3 => ?_
    · obtain ⟨x, -, rfl⟩ := List.mem_map.mp he
      rfl
    · have ff : gFr (gAny u us w) o G o4 G4 := ((a2.mono fun x z => Or.inr (Or.inl z)).tr (a6 _)).tr c3
      refine hQ o4 G4 1 ⟨ff.C h1, (ff.O h1).trans h1', t, (ff.S h1 h1' fa0).R h3, by rw [ff.2]; exact c1⟩ ⟨ff.C b1, (ff.O b1).trans b2, ts, (ff.S b1 b2 fa0).R b3, ?_⟩ ff
      rw [ff.2]
      rw [b3] at a3
      cases a3
      have := c2.mp
      simpa using this
end P19
