/-! ===== plain law 18: TreeMap.buildFromSorted's levels (written by gen18.py) ===== -/
set_option maxRecDepth 100000
theorem splitAt {α : Type} : ∀ (l : List α) (k : Nat), k < l.length → ∃ a e b, l = a ++ e :: b ∧ a.length = k
  | [], k, h => absurd h (Nat.not_lt_zero k)
  | x :: l, 0, _ => ⟨[], x, l, rfl, rfl⟩
  | x :: l, k + 1, h => by
    obtain ⟨a, e, b, h1, h2⟩ := splitAt l k (by simpa using h)
    exact ⟨x :: a, e, b, by rw [h1]; rfl, by rw [List.length_cons, h2]⟩
abbrev bWt : Type := (hG → Option Nat → Prop) → Nat → Int32 → Int32 → Int32 → Int32 → Option Nat → Option Nat → Option Nat → hG → Prop
def bSpec (W : bWt) (mx : Nat) : Prop := ∀ (Q : hG → Option Nat → Prop) (o : gO) (G : hG) (u us w : Nat × Nat) (t ts it ci : Nat) (dv : Option Nat) (lev red : Int32) (lo : Nat) (E1 Ea E2 : List En), u ≠ w → us ≠ w → us ≠ u → w ≠ (0, 0) → u ≠ (0, 0) → hC G t = some (9, true) → bKd ci dv Ea → pIM o G us ts E1 (Ea ++ E2) it w ci → 1 ≤ Ea.length → Ea.length ≤ mx → lo + Ea.length ≤ 1000 → (∀ (o' : gO) (G' : hG) (N : List Nat) (kk : Nat → Wd) (vv : Nat → Option Nat) (sub : Nat → List Nat) (r : Nat), pIM o' G' us ts (E1 ++ Ea) E2 it w ci → pTr o' G' u N kk vv sub (some r) → N.map (fun n => (kk n, vv n)) = Ea → (∀ x, x ∈ N → hC G x = none) → gFr (gOnly w) o G o' G' → Q G' (some r)) → W Q t lev (nI lo) (nI (lo + Ea.length - 1)) red (some it) none dv G
theorem s_bL0 : bSpec wJ1_buildFromSorted_2_L0 1 := by
  intro Q o G u us w t ts it ci dv lev red lo E1 Ea E2 huw husw husu hw0 hu0 ht hk hIt hn1 hn2 hlo hQ
  have f0 : ¬ gOnly w (0, 0) := fun z => hw0 z.symm
  have fw : ¬ gOnly w u := fun z => huw z
  have fu0 : ¬ gOnly u (0, 0) := fun z => hu0 z.symm
  obtain ⟨Ea1, e, Ea2, hE, hl1⟩ := splitAt Ea ((Ea.length - 1) / 2) (by omega)
  have hle : Ea.length = Ea1.length + (Ea2.length + 1) := by rw [hE, List.length_append, List.length_cons]
  unfold wJ1_buildFromSorted_2_L0
  refine br_t (nI_le (by omega) (by omega)) (hlet_i ?_)
  rw [s_mid hn1 hlo, ← hl1]
  -- from the middle node on
  have R : ∀ (oB : gO) (GB GL : hG) (oL : gO) (N1 : List Nat) (k1 : Nat → Wd) (v1 : Nat → Option Nat) (sub1 : Nat → List Nat) (r1 : Option Nat) (m a : Nat), pIM oB GB us ts (E1 ++ Ea1 ++ [e]) (Ea2 ++ E2) it w ci → gFr (gOnly w) o G oB GB → pTr oL GL u N1 k1 v1 sub1 r1 → N1.map (fun n => (k1 n, v1 n)) = Ea1 → (∀ b, b ∈ N1 → hC GB b = some (10, true) ∧ oB b = u ∧ hI GB b = hI GL b) → (∀ b j, b ∈ N1 → hR GB b j = if r1 = some b ∧ j = 4 then some m else hR GL b j) → (∀ x l, pW oL GL x l → pW oB GB x l) → hC GB m = some (10, true) → oB m = u → hR GB m 0 = some a → pW oB GB a e.1 → hR GB m 1 = e.2 → (hI GB m 5 = 0 ∨ hI GB m 5 = 1) → hR GB m 2 = r1 → hR GB m 3 = none → hR GB m 4 = none → m ∉ N1 → (∀ x, x ∈ N1 → hC G x = none) → hC G m = none → ∀ (lo' : Nat), wJ1_buildFromSorted_2_L0_b173 Q t lev (nI (lo + Ea.length - 1)) red it none dv (nI (lo + Ea1.length)) m GB := by
    intro oB GB GL oL N1 k1 v1 sub1 r1 m a hIB fB h1 hm1 c1 g1 w1 mc mo mk mw mv m5 m2 m3 m4 mN fN fm _
    have htB := fB.C ht
    unfold wJ1_buildFromSorted_2_L0_b173 wJ1_buildFromSorted_2_L0_b215
    have hb : ∀ b, b ∈ N1 → b ≠ m := fun b hb z => mN (by rw [← z]; exact hb)
    by_cases c2 : Ea2.length = 0
    · have e2 : Ea2 = [] := List.eq_nil_of_length_eq_zero c2
      refine br_t (nI_le (by omega) (by omega)) ?_
      obtain ⟨kk, vv, sub', a1, a2⟩ := s_bEnd (o' := oB) (G' := GB) (GD := GB) (oD := oB) (N2 := []) (k2 := k1) (v2 := v1) (sub2 := sub1) (r2 := none) (m := m) (a := a) (e := e) h1 ⟨fun n hn => (nomatch hn), TI.nil⟩ mN (by simp) (fun x hx => by simp) rfl mc mo mk mw mv m5 m2 m3 m4 c1 g1 (fun b hb => (nomatch hb)) (fun b j hb => (nomatch hb)) w1 (fun x l h => h)
      refine hQ oB GB (N1 ++ m :: []) kk vv sub' m ?_ a1 ?_ (fun x hx => ?_) fB
      · rw [hE, e2]
        rw [e2] at hIB
        simpa using hIB
      · rw [a2, hm1, hE, e2]
        rfl
      · rcases List.mem_append.mp hx with z | z
        · exact fN x z
        · rw [List.mem_singleton.mp z]
          exact fm
    · omega
  -- the middle node is made
  have Mk : ∀ (oL : gO) (GL : hG) (N1 : List Nat) (k1 : Nat → Wd) (v1 : Nat → Option Nat) (sub1 : Nat → List Nat) (r1 : Option Nat), pIM oL GL us ts (E1 ++ Ea1) (e :: (Ea2 ++ E2)) it w ci → gFr (gOnly w) o G oL GL → pTr oL GL u N1 k1 v1 sub1 r1 → N1.map (fun n => (k1 n, v1 n)) = Ea1 → (∀ x, x ∈ N1 → hC G x = none) → wJ1_buildFromSorted_2_L0_b45 Q t lev (nI (lo + Ea.length - 1)) red (some it) none dv (nI (lo + Ea1.length)) r1 GL := by
    intro oL GL N1 k1 v1 sub1 r1 hIL fL h1 hm1 fN
    have N128 : ∀ G1 a, pIM oL G1 us ts (E1 ++ Ea1 ++ [e]) (Ea2 ++ E2) it w ci → gFr (gOnly w) oL GL oL G1 → pW oL G1 a e.1 → wJ1_buildFromSorted_2_L0_b128 Q t lev (nI (lo + Ea.length - 1)) red it none dv (nI (lo + Ea1.length)) r1 (some a) e.2 G1 := by
      intro G1 a hI1 f1 ha
      have fG1 := fL.tr f1
      have h11 := h1.fr f1 fw f0
      unfold wJ1_buildFromSorted_2_L0_b128
      intro q hq
      have qN : ∀ b, b ∈ N1 → b ≠ q := fun b hb z => by
        have := (h11.1 b hb).1
        rw [z, hq] at this
        cases this
      have qG : hC G q = none := fG1.fresh hq
      refine hlet_i (s_newE (by rw [hC_nw, if_pos rfl]) ?_)
      have N154 : ∀ G2, hC G2 = hC (hnw G1 q 10 0) → hN G2 = hN (hnw G1 q 10 0) → hJ G2 = hJ (hnw G1 q 10 0) → hK G2 = hK G1 → (∀ b j, b ≠ q → hI G2 b j = hI G1 b j) → (hI G2 q 5 = 0 ∨ hI G2 q 5 = 1) → (∀ b j, hR G2 b j = if b = q then (if j = 4 then none else if j = 1 then e.2 else if j = 0 then some a else none) else hR G1 b j) → wJ1_buildFromSorted_2_L0_b154 Q t lev (nI (lo + Ea.length - 1)) red it none dv (nI (lo + Ea1.length)) r1 q G2 := by
        intro G2 x1 x2 x3 x4 x5 x6 x7
        have f2 : ∀ M, gFr M oL G1 (gU oL q u) G2 := fun M => ⟨fun b c hb => by
          have e9 : b ≠ q := fun z => by rw [z, hq] at hb; cases hb
          refine ⟨by rw [x1, hC_nw, if_neg e9]; exact hb, gU_n e9, fun _ => ⟨by rw [x2, hN_nw, if_neg e9], funext fun j => x5 b j e9, by rw [x3]; funext j; rw [hJ_nw, if_neg e9], funext fun j => by rw [x7, if_neg e9]⟩⟩, x4⟩
        have cq : hC G2 q = some (10, true) := by rw [x1, hC_nw, if_pos rfl]
        have r0 : hR G2 q 0 = some a := by rw [x7, if_pos rfl]; rfl
        have rv : hR G2 q 1 = e.2 := by rw [x7, if_pos rfl]; rfl
        have rz : ∀ j, 2 ≤ j → hR G2 q j = none := fun j hj => by
          rw [x7, if_pos rfl]
          by_cases c4 : j = 4
          · rw [if_pos c4]
          · rw [if_neg c4, if_neg (by omega), if_neg (by omega)]
        have hI2 := hI1.fr (f2 gNo) (fun z => z) (fun z => z) (fun z => z)
        have fG2 := fG1.tr (f2 (gOnly w))
        unfold wJ1_buildFromSorted_2_L0_b154
        cases hr : r1 with
        | none =>
          refine cm_none (R (gU oL q u) G2 G1 oL N1 k1 v1 sub1 r1 q a hI2 fG2 h11 hm1 (fun b hb => ?_) (fun b j hb => ?_) (fun x l h => h.fr (f2 gNo) (fun z => z)) cq gU_s r0 (ha.fr (f2 gNo) (fun z => z)) rv x6 (by rw [hr]; exact rz 2 (by decide)) (rz 3 (by decide)) (rz 4 (by decide)) (fun z => qN q z rfl) fN qG 0)
          · have := h11.1 b hb
            exact ⟨(f2 gNo).C this.1, ((f2 gNo).O this.1).trans this.2.1, funext fun j => x5 b j (qN b hb)⟩
          · rw [hr, if_neg (fun z => by cases z.1), x7, if_neg (qN b hb)]
        | some l =>
          have hlN : l ∈ N1 := (h1.2.rp hr).1
          have hlc := h11.1 l hlN
          have lq := qN l hlN
          refine cm_some ⟨cq, hlet_i ⟨by rw [hC_sR, x1, hC_nw, if_neg lq]; exact hlc.1, hlet_i ?_⟩⟩
          have f3 : gFr (gOnly u) (gU oL q u) G2 (gU oL q u) (hsR (hsR G2 q 2 (some l)) l 4 (some q)) := ((gFr.rf (M := gOnly u)).sR (Or.inr gU_s)).sR (Or.inr (((f2 gNo).O hlc.1).trans hlc.2.1))
          have fG3 : gFr (gOnly w) o G (gU oL q u) (hsR (hsR G2 q 2 (some l)) l 4 (some q)) := (fG2.sR (Or.inl qG)).sR (Or.inl (fN l hlN))
          refine R (gU oL q u) _ G1 oL N1 k1 v1 sub1 r1 q a (hI2.fr f3 husu (fun z => huw z.symm) fu0) fG3 h11 hm1 (fun b hb => ?_) (fun b j hb => ?_) (fun x l h => (h.fr (f2 gNo) (fun z => z)).fr f3 fu0) cq gU_s ?_ ((ha.fr (f2 gNo) (fun z => z)).fr f3 fu0) ?_ x6 ?_ ?_ ?_ (fun z => qN q z rfl) fN qG 0
          · have := h11.1 b hb
            exact ⟨(f2 gNo).C this.1, ((f2 gNo).O this.1).trans this.2.1, funext fun j => x5 b j (qN b hb)⟩
          · rw [hR_sR, hR_sR, x7, if_neg (qN b hb), hr]
            by_cases c : b = l ∧ j = 4
            · rw [if_pos c, if_pos ⟨by rw [c.1], c.2⟩]
            · rw [if_neg c, if_neg (fun z => qN b hb z.1), if_neg (fun z => c ⟨(Option.some.inj z.1).symm, z.2⟩)]
          · rw [hR_sR, if_neg (fun z => lq z.1.symm), hR_sR, if_neg (fun z => by have := z.2; omega)]
            exact r0
          · rw [hR_sR, if_neg (fun z => lq z.1.symm), hR_sR, if_neg (fun z => by have := z.2; omega)]
            exact rv
          · rw [hR_sR, if_neg (fun z => lq z.1.symm), hR_sR, if_pos ⟨rfl, rfl⟩, hr]
          · rw [hR_sR, if_neg (fun z => lq z.1.symm), hR_sR, if_neg (fun z => by have := z.2; omega)]
            exact rz 3 (by decide)
          · rw [hR_sR, if_neg (fun z => lq z.1.symm), hR_sR, if_neg (fun z => by have := z.2; omega)]
            exact rz 4 (by decide)
      have rr : ∀ b j, hR (hsR (hsR (hsR (hsI (hnw G1 q 10 0) q 5 1) q 0 (some a)) q 1 e.2) q 4 none) b j = if b = q then (if j = 4 then none else if j = 1 then e.2 else if j = 0 then some a else none) else hR G1 b j := by
        intro b j
        rw [hR_sR, hR_sR, hR_sR, hR_sI, hR_nw]
        by_cases c : b = q
        · rw [if_pos c, if_pos c]
          by_cases c4 : j = 4
          · rw [if_pos ⟨c, c4⟩, if_pos c4]
          · rw [if_neg (fun z => c4 z.2), if_neg c4]
            by_cases c3 : j = 1
            · rw [if_pos ⟨c, c3⟩, if_pos c3]
            · rw [if_neg (fun z => c3 z.2), if_neg c3]
              by_cases c0 : j = 0
              · rw [if_pos ⟨c, c0⟩, if_pos c0]
              · rw [if_neg (fun z => c0 z.2), if_neg c0]
        · rw [if_neg (fun z => c z.1), if_neg (fun z => c z.1), if_neg (fun z => c z.1), if_neg c, if_neg c]
      refine br_c (fun _ => ⟨by rw [hC_sR, hC_sR, hC_sR, hC_sI, hC_nw, if_pos rfl], hlet_i ?_⟩) (fun _ => ?_)
      · refine N154 _ rfl rfl rfl rfl (fun b j hb => ?_) (Or.inl ?_) (fun b j => ?_)
        · rw [hI_sI, if_neg (fun z => hb z.1), hI_sR, hI_sR, hI_sR, hI_sI, if_neg (fun z => hb z.1), hI_nw, if_neg hb]
        · rw [hI_sI, if_pos ⟨rfl, rfl⟩]
        · rw [hR_sI]
          exact rr b j
      · refine N154 _ rfl rfl rfl rfl (fun b j hb => ?_) (Or.inr ?_) rr
        · rw [hI_sR, hI_sR, hI_sR, hI_sI, if_neg (fun z => hb z.1), hI_nw, if_neg hb]
        · rw [hI_sR, hI_sR, hI_sR, hI_sI, if_pos ⟨rfl, rfl⟩]
    unfold wJ1_buildFromSorted_2_L0_b45
    refine cm_some ?_
    rcases hk with ⟨k1', k2'⟩ | ⟨k1', P, k2', k3'⟩
    · subst k1' k2'
      refine cm_none ⟨hclt hIL.ic, s_next13 hIL husw.symm hw0 fun G' n b1 b2 b3 b4 b5 => ⟨fun y z => by cases z; exact hclt b3, n, rfl, hclt b3, ?_⟩⟩
      obtain ⟨a, b6, b7⟩ := b4
      unfold wJ22_getKey
      refine ⟨hclt b3, hlet_i ⟨hclt b3, ?_⟩⟩
      unfold wJ22_getValue
      refine ⟨hclt b3, hlet_i ?_⟩
      rw [b6, b5]
      exact N128 G' a b1 b2 b7
    · subst k1' k2'
      refine cm_some ⟨hclt hIL.ic, s_next11 hIL husw.symm hw0 fun G' a b1 b2 b3 => ?_⟩
      have := N128 G' a b1 b2 b3
      rw [k3' e (by rw [hE]; simp)] at this
      exact this
  by_cases c1 : Ea1.length = 0
  · have e1 : Ea1 = [] := List.eq_nil_of_length_eq_zero c1
    refine br_t (nI_le (by omega) (by omega)) ?_
    refine Mk o G [] (fun _ => []) (fun _ => none) (fun _ => []) none ?_ gFr.rf ⟨fun n hn => (nomatch hn), TI.nil⟩ (by rw [e1]; rfl) (fun x hx => (nomatch hx))
    rw [e1]
    rw [hE, e1] at hIt
    simpa using hIt
  · omega
theorem s_bL1 : bSpec wJ1_buildFromSorted_2_L1 3 := by
  intro Q o G u us w t ts it ci dv lev red lo E1 Ea E2 huw husw husu hw0 hu0 ht hk hIt hn1 hn2 hlo hQ
  have f0 : ¬ gOnly w (0, 0) := fun z => hw0 z.symm
  have fw : ¬ gOnly w u := fun z => huw z
  have fu0 : ¬ gOnly u (0, 0) := fun z => hu0 z.symm
  obtain ⟨Ea1, e, Ea2, hE, hl1⟩ := splitAt Ea ((Ea.length - 1) / 2) (by omega)
  have hle : Ea.length = Ea1.length + (Ea2.length + 1) := by rw [hE, List.length_append, List.length_cons]
  unfold wJ1_buildFromSorted_2_L1
  refine br_t (nI_le (by omega) (by omega)) (hlet_i ?_)
  rw [s_mid hn1 hlo, ← hl1]
  -- from the middle node on
  have R : ∀ (oB : gO) (GB GL : hG) (oL : gO) (N1 : List Nat) (k1 : Nat → Wd) (v1 : Nat → Option Nat) (sub1 : Nat → List Nat) (r1 : Option Nat) (m a : Nat), pIM oB GB us ts (E1 ++ Ea1 ++ [e]) (Ea2 ++ E2) it w ci → gFr (gOnly w) o G oB GB → pTr oL GL u N1 k1 v1 sub1 r1 → N1.map (fun n => (k1 n, v1 n)) = Ea1 → (∀ b, b ∈ N1 → hC GB b = some (10, true) ∧ oB b = u ∧ hI GB b = hI GL b) → (∀ b j, b ∈ N1 → hR GB b j = if r1 = some b ∧ j = 4 then some m else hR GL b j) → (∀ x l, pW oL GL x l → pW oB GB x l) → hC GB m = some (10, true) → oB m = u → hR GB m 0 = some a → pW oB GB a e.1 → hR GB m 1 = e.2 → (hI GB m 5 = 0 ∨ hI GB m 5 = 1) → hR GB m 2 = r1 → hR GB m 3 = none → hR GB m 4 = none → m ∉ N1 → (∀ x, x ∈ N1 → hC G x = none) → hC G m = none → ∀ (lo' : Nat), wJ1_buildFromSorted_2_L1_b173 Q t lev (nI (lo + Ea.length - 1)) red it none dv (nI (lo + Ea1.length)) m GB := by
    intro oB GB GL oL N1 k1 v1 sub1 r1 m a hIB fB h1 hm1 c1 g1 w1 mc mo mk mw mv m5 m2 m3 m4 mN fN fm _
    have htB := fB.C ht
    unfold wJ1_buildFromSorted_2_L1_b173 wJ1_buildFromSorted_2_L1_b215
    have hb : ∀ b, b ∈ N1 → b ≠ m := fun b hb z => mN (by rw [← z]; exact hb)
    by_cases c2 : Ea2.length = 0
    · have e2 : Ea2 = [] := List.eq_nil_of_length_eq_zero c2
      refine br_t (nI_le (by omega) (by omega)) ?_
      obtain ⟨kk, vv, sub', a1, a2⟩ := s_bEnd (o' := oB) (G' := GB) (GD := GB) (oD := oB) (N2 := []) (k2 := k1) (v2 := v1) (sub2 := sub1) (r2 := none) (m := m) (a := a) (e := e) h1 ⟨fun n hn => (nomatch hn), TI.nil⟩ mN (by simp) (fun x hx => by simp) rfl mc mo mk mw mv m5 m2 m3 m4 c1 g1 (fun b hb => (nomatch hb)) (fun b j hb => (nomatch hb)) w1 (fun x l h => h)
      refine hQ oB GB (N1 ++ m :: []) kk vv sub' m ?_ a1 ?_ (fun x hx => ?_) fB
      · rw [hE, e2]
        rw [e2] at hIB
        simpa using hIB
      · rw [a2, hm1, hE, e2]
        rfl
      · rcases List.mem_append.mp hx with z | z
        · exact fN x z
        · rw [List.mem_singleton.mp z]
          exact fm
    · refine br_f (nI_ge (by omega) (by omega)) ⟨hclt htB, ?_⟩
      rw [show nI (lo + Ea1.length) + (1 : Int32) = nI (lo + Ea1.length + 1) from nI_1 _, show lo + Ea.length - 1 = (lo + Ea1.length + 1) + Ea2.length - 1 by omega]
      refine s_bL0 _ oB GB u us w t ts it ci dv _ red (lo + Ea1.length + 1) (E1 ++ Ea1 ++ [e]) Ea2 E2 huw husw husu hw0 hu0 htB (hk.sub (fun x hx => by rw [hE]; exact List.mem_append_right _ (List.mem_cons_of_mem _ hx))) hIB (by omega) (by omega) (by omega) fun o' G' N2 k2 v2 sub2 r2 b1 b2 b3 b4 b5 => ?_
      have m' := b5.C mc
      have r2N : r2 ∈ N2 := (b2.2.rp rfl).1
      have r2c := (b2.1 r2 r2N).1
      have sN : ∀ b, b ∈ N1 → hSm GB G' b := fun b hb => b5.S (c1 b hb).1 (c1 b hb).2.1 fw
      have sm := b5.S mc mo fw
      have nN2 : ∀ b, hC GB b = some (10, true) → b ∉ N2 := fun b hb z => by
        have := b4 b z
        rw [hb] at this
        cases this
      have mr2 : m ≠ r2 := fun z => nN2 m mc (by rw [z]; exact r2N)
      refine ⟨m', hlet_i ⟨r2, rfl, by rw [hC_sR]; exact r2c, hlet_i ?_⟩⟩
      have f3 : gFr (gOnly u) o' G' o' (hsR (hsR G' m 3 (some r2)) r2 4 (some m)) := ((gFr.rf (M := gOnly u)).sR (Or.inr ((b5.O mc).trans mo))).sR (Or.inr (b2.1 r2 r2N).2.1)
      have fG : gFr (gOnly w) o G o' (hsR (hsR G' m 3 (some r2)) r2 4 (some m)) := ((fB.tr b5).sR (Or.inl fm)).sR (Or.inl (fB.fresh (b4 r2 r2N)))
      have rr : ∀ b j, hR (hsR (hsR G' m 3 (some r2)) r2 4 (some m)) b j = if b = r2 ∧ j = 4 then some m else if b = m ∧ j = 3 then some r2 else hR G' b j := fun b j => by rw [hR_sR, hR_sR]
      have rm : ∀ j, j ≠ 3 → hR (hsR (hsR G' m 3 (some r2)) r2 4 (some m)) m j = hR GB m j := fun j hj => by
        rw [rr, if_neg (fun z => mr2 z.1), if_neg (fun z => hj z.2)]
        exact congrFun sm.2.2.2 j
      obtain ⟨kk, vv, sub', a1, a2⟩ := s_bEnd (o' := o') (G' := hsR (hsR G' m 3 (some r2)) r2 4 (some m)) (GD := G') (oD := o') (N2 := N2) (k2 := k2) (v2 := v2) (sub2 := sub2) (r2 := some r2) (m := m) (a := a) (e := e) h1 b2 mN (nN2 m mc) (fun x hx => nN2 x (c1 x hx).1) rfl m' ((b5.O mc).trans mo) ((rm 0 (by decide)).trans mk) ((mw.fr b5 f0).fr f3 fu0) ((rm 1 (by decide)).trans mv) (by rw [hI_sR, hI_sR, sm.2.1]; exact m5) ((rm 2 (by decide)).trans m2) (by rw [rr, if_neg (fun z => mr2 z.1), if_pos ⟨rfl, rfl⟩]) ((rm 4 (by decide)).trans m4) (fun b hb => ⟨b5.C (c1 b hb).1, (b5.O (c1 b hb).1).trans (c1 b hb).2.1, by rw [hI_sR, hI_sR, (sN b hb).2.1]; exact (c1 b hb).2.2⟩) (fun b j hb' => by
          rw [rr, if_neg (fun z => nN2 b (c1 b hb').1 (by rw [z.1]; exact r2N)), if_neg (fun z => hb b hb' z.1), (sN b hb').2.2.2]
          exact g1 b j hb') (fun b hb => ⟨(b2.1 b hb).1, (b2.1 b hb).2.1, rfl⟩) (fun b j hb' => by
          have bm : b ≠ m := fun z => nN2 m mc (by rw [← z]; exact hb')
          rw [rr]
          by_cases c : b = r2 ∧ j = 4
          · rw [if_pos c, if_pos ⟨by rw [c.1], c.2⟩]
          · rw [if_neg c, if_neg (fun z => bm z.1), if_neg (fun z => c ⟨(Option.some.inj z.1).symm, z.2⟩)]) (fun x l h => ((w1 x l h).fr b5 f0).fr f3 fu0) (fun x l h => h.fr f3 fu0)
      refine hQ o' _ (N1 ++ m :: N2) kk vv sub' m ?_ a1 ?_ (fun x hx => ?_) fG
      · rw [hE]
        have := b1.fr f3 husu (fun z => huw z.symm) fu0
        simpa using this
      · rw [a2, hm1, b3, hE]
      · rcases List.mem_append.mp hx with z | z
        · exact fN x z
        · rcases List.mem_cons.mp z with z | z
          · rw [z]
            exact fm
          · exact fB.fresh (b4 x z)
  -- the middle node is made
  have Mk : ∀ (oL : gO) (GL : hG) (N1 : List Nat) (k1 : Nat → Wd) (v1 : Nat → Option Nat) (sub1 : Nat → List Nat) (r1 : Option Nat), pIM oL GL us ts (E1 ++ Ea1) (e :: (Ea2 ++ E2)) it w ci → gFr (gOnly w) o G oL GL → pTr oL GL u N1 k1 v1 sub1 r1 → N1.map (fun n => (k1 n, v1 n)) = Ea1 → (∀ x, x ∈ N1 → hC G x = none) → wJ1_buildFromSorted_2_L1_b45 Q t lev (nI (lo + Ea.length - 1)) red (some it) none dv (nI (lo + Ea1.length)) r1 GL := by
    intro oL GL N1 k1 v1 sub1 r1 hIL fL h1 hm1 fN
    have N128 : ∀ G1 a, pIM oL G1 us ts (E1 ++ Ea1 ++ [e]) (Ea2 ++ E2) it w ci → gFr (gOnly w) oL GL oL G1 → pW oL G1 a e.1 → wJ1_buildFromSorted_2_L1_b128 Q t lev (nI (lo + Ea.length - 1)) red it none dv (nI (lo + Ea1.length)) r1 (some a) e.2 G1 := by
      intro G1 a hI1 f1 ha
      have fG1 := fL.tr f1
      have h11 := h1.fr f1 fw f0
      unfold wJ1_buildFromSorted_2_L1_b128
      intro q hq
      have qN : ∀ b, b ∈ N1 → b ≠ q := fun b hb z => by
        have := (h11.1 b hb).1
        rw [z, hq] at this
        cases this
      have qG : hC G q = none := fG1.fresh hq
      refine hlet_i (s_newE (by rw [hC_nw, if_pos rfl]) ?_)
      have N154 : ∀ G2, hC G2 = hC (hnw G1 q 10 0) → hN G2 = hN (hnw G1 q 10 0) → hJ G2 = hJ (hnw G1 q 10 0) → hK G2 = hK G1 → (∀ b j, b ≠ q → hI G2 b j = hI G1 b j) → (hI G2 q 5 = 0 ∨ hI G2 q 5 = 1) → (∀ b j, hR G2 b j = if b = q then (if j = 4 then none else if j = 1 then e.2 else if j = 0 then some a else none) else hR G1 b j) → wJ1_buildFromSorted_2_L1_b154 Q t lev (nI (lo + Ea.length - 1)) red it none dv (nI (lo + Ea1.length)) r1 q G2 := by
        intro G2 x1 x2 x3 x4 x5 x6 x7
        have f2 : ∀ M, gFr M oL G1 (gU oL q u) G2 := fun M => ⟨fun b c hb => by
          have e9 : b ≠ q := fun z => by rw [z, hq] at hb; cases hb
          refine ⟨by rw [x1, hC_nw, if_neg e9]; exact hb, gU_n e9, fun _ => ⟨by rw [x2, hN_nw, if_neg e9], funext fun j => x5 b j e9, by rw [x3]; funext j; rw [hJ_nw, if_neg e9], funext fun j => by rw [x7, if_neg e9]⟩⟩, x4⟩
        have cq : hC G2 q = some (10, true) := by rw [x1, hC_nw, if_pos rfl]
        have r0 : hR G2 q 0 = some a := by rw [x7, if_pos rfl]; rfl
        have rv : hR G2 q 1 = e.2 := by rw [x7, if_pos rfl]; rfl
        have rz : ∀ j, 2 ≤ j → hR G2 q j = none := fun j hj => by
          rw [x7, if_pos rfl]
          by_cases c4 : j = 4
          · rw [if_pos c4]
          · rw [if_neg c4, if_neg (by omega), if_neg (by omega)]
        have hI2 := hI1.fr (f2 gNo) (fun z => z) (fun z => z) (fun z => z)
        have fG2 := fG1.tr (f2 (gOnly w))
        unfold wJ1_buildFromSorted_2_L1_b154
        cases hr : r1 with
        | none =>
          refine cm_none (R (gU oL q u) G2 G1 oL N1 k1 v1 sub1 r1 q a hI2 fG2 h11 hm1 (fun b hb => ?_) (fun b j hb => ?_) (fun x l h => h.fr (f2 gNo) (fun z => z)) cq gU_s r0 (ha.fr (f2 gNo) (fun z => z)) rv x6 (by rw [hr]; exact rz 2 (by decide)) (rz 3 (by decide)) (rz 4 (by decide)) (fun z => qN q z rfl) fN qG 0)
          · have := h11.1 b hb
            exact ⟨(f2 gNo).C this.1, ((f2 gNo).O this.1).trans this.2.1, funext fun j => x5 b j (qN b hb)⟩
          · rw [hr, if_neg (fun z => by cases z.1), x7, if_neg (qN b hb)]
        | some l =>
          have hlN : l ∈ N1 := (h1.2.rp hr).1
          have hlc := h11.1 l hlN
          have lq := qN l hlN
          refine cm_some ⟨cq, hlet_i ⟨by rw [hC_sR, x1, hC_nw, if_neg lq]; exact hlc.1, hlet_i ?_⟩⟩
          have f3 : gFr (gOnly u) (gU oL q u) G2 (gU oL q u) (hsR (hsR G2 q 2 (some l)) l 4 (some q)) := ((gFr.rf (M := gOnly u)).sR (Or.inr gU_s)).sR (Or.inr (((f2 gNo).O hlc.1).trans hlc.2.1))
          have fG3 : gFr (gOnly w) o G (gU oL q u) (hsR (hsR G2 q 2 (some l)) l 4 (some q)) := (fG2.sR (Or.inl qG)).sR (Or.inl (fN l hlN))
          refine R (gU oL q u) _ G1 oL N1 k1 v1 sub1 r1 q a (hI2.fr f3 husu (fun z => huw z.symm) fu0) fG3 h11 hm1 (fun b hb => ?_) (fun b j hb => ?_) (fun x l h => (h.fr (f2 gNo) (fun z => z)).fr f3 fu0) cq gU_s ?_ ((ha.fr (f2 gNo) (fun z => z)).fr f3 fu0) ?_ x6 ?_ ?_ ?_ (fun z => qN q z rfl) fN qG 0
          · have := h11.1 b hb
            exact ⟨(f2 gNo).C this.1, ((f2 gNo).O this.1).trans this.2.1, funext fun j => x5 b j (qN b hb)⟩
          · rw [hR_sR, hR_sR, x7, if_neg (qN b hb), hr]
            by_cases c : b = l ∧ j = 4
            · rw [if_pos c, if_pos ⟨by rw [c.1], c.2⟩]
            · rw [if_neg c, if_neg (fun z => qN b hb z.1), if_neg (fun z => c ⟨(Option.some.inj z.1).symm, z.2⟩)]
          · rw [hR_sR, if_neg (fun z => lq z.1.symm), hR_sR, if_neg (fun z => by have := z.2; omega)]
            exact r0
          · rw [hR_sR, if_neg (fun z => lq z.1.symm), hR_sR, if_neg (fun z => by have := z.2; omega)]
            exact rv
          · rw [hR_sR, if_neg (fun z => lq z.1.symm), hR_sR, if_pos ⟨rfl, rfl⟩, hr]
          · rw [hR_sR, if_neg (fun z => lq z.1.symm), hR_sR, if_neg (fun z => by have := z.2; omega)]
            exact rz 3 (by decide)
          · rw [hR_sR, if_neg (fun z => lq z.1.symm), hR_sR, if_neg (fun z => by have := z.2; omega)]
            exact rz 4 (by decide)
      have rr : ∀ b j, hR (hsR (hsR (hsR (hsI (hnw G1 q 10 0) q 5 1) q 0 (some a)) q 1 e.2) q 4 none) b j = if b = q then (if j = 4 then none else if j = 1 then e.2 else if j = 0 then some a else none) else hR G1 b j := by
        intro b j
        rw [hR_sR, hR_sR, hR_sR, hR_sI, hR_nw]
        by_cases c : b = q
        · rw [if_pos c, if_pos c]
          by_cases c4 : j = 4
          · rw [if_pos ⟨c, c4⟩, if_pos c4]
          · rw [if_neg (fun z => c4 z.2), if_neg c4]
            by_cases c3 : j = 1
            · rw [if_pos ⟨c, c3⟩, if_pos c3]
            · rw [if_neg (fun z => c3 z.2), if_neg c3]
              by_cases c0 : j = 0
              · rw [if_pos ⟨c, c0⟩, if_pos c0]
              · rw [if_neg (fun z => c0 z.2), if_neg c0]
        · rw [if_neg (fun z => c z.1), if_neg (fun z => c z.1), if_neg (fun z => c z.1), if_neg c, if_neg c]
      refine br_c (fun _ => ⟨by rw [hC_sR, hC_sR, hC_sR, hC_sI, hC_nw, if_pos rfl], hlet_i ?_⟩) (fun _ => ?_)
      · refine N154 _ rfl rfl rfl rfl (fun b j hb => ?_) (Or.inl ?_) (fun b j => ?_)
        · rw [hI_sI, if_neg (fun z => hb z.1), hI_sR, hI_sR, hI_sR, hI_sI, if_neg (fun z => hb z.1), hI_nw, if_neg hb]
        · rw [hI_sI, if_pos ⟨rfl, rfl⟩]
        · rw [hR_sI]
          exact rr b j
      · refine N154 _ rfl rfl rfl rfl (fun b j hb => ?_) (Or.inr ?_) rr
        · rw [hI_sR, hI_sR, hI_sR, hI_sI, if_neg (fun z => hb z.1), hI_nw, if_neg hb]
        · rw [hI_sR, hI_sR, hI_sR, hI_sI, if_pos ⟨rfl, rfl⟩]
    unfold wJ1_buildFromSorted_2_L1_b45
    refine cm_some ?_
    rcases hk with ⟨k1', k2'⟩ | ⟨k1', P, k2', k3'⟩
    · subst k1' k2'
      refine cm_none ⟨hclt hIL.ic, s_next13 hIL husw.symm hw0 fun G' n b1 b2 b3 b4 b5 => ⟨fun y z => by cases z; exact hclt b3, n, rfl, hclt b3, ?_⟩⟩
      obtain ⟨a, b6, b7⟩ := b4
      unfold wJ22_getKey
      refine ⟨hclt b3, hlet_i ⟨hclt b3, ?_⟩⟩
      unfold wJ22_getValue
      refine ⟨hclt b3, hlet_i ?_⟩
      rw [b6, b5]
      exact N128 G' a b1 b2 b7
    · subst k1' k2'
      refine cm_some ⟨hclt hIL.ic, s_next11 hIL husw.symm hw0 fun G' a b1 b2 b3 => ?_⟩
      have := N128 G' a b1 b2 b3
      rw [k3' e (by rw [hE]; simp)] at this
      exact this
  by_cases c1 : Ea1.length = 0
  · have e1 : Ea1 = [] := List.eq_nil_of_length_eq_zero c1
    refine br_t (nI_le (by omega) (by omega)) ?_
    refine Mk o G [] (fun _ => []) (fun _ => none) (fun _ => []) none ?_ gFr.rf ⟨fun n hn => (nomatch hn), TI.nil⟩ (by rw [e1]; rfl) (fun x hx => (nomatch hx))
    rw [e1]
    rw [hE, e1] at hIt
    simpa using hIt
  · refine br_f (nI_ge (by omega) (by omega)) ⟨hclt ht, ?_⟩
    rw [show (1 : Int32) = nI 1 from rfl, nI_sub (by omega)]
    refine s_bL0 _ o G u us w t ts it ci dv _ red lo E1 Ea1 (e :: (Ea2 ++ E2)) huw husw husu hw0 hu0 ht (hk.sub (fun x hx => by rw [hE]; exact List.mem_append_left _ hx)) ?_ (by omega) (by omega) (by omega) fun o' G' N kk vv sub r a1 a2 a3 a4 a5 => ?_
    · rw [hE] at hIt
      simpa using hIt
    · exact Mk o' G' N kk vv sub (some r) a1 a5 a2 a3 a4
theorem s_bL2 : bSpec wJ1_buildFromSorted_2_L2 7 := by
  intro Q o G u us w t ts it ci dv lev red lo E1 Ea E2 huw husw husu hw0 hu0 ht hk hIt hn1 hn2 hlo hQ
  have f0 : ¬ gOnly w (0, 0) := fun z => hw0 z.symm
  have fw : ¬ gOnly w u := fun z => huw z
  have fu0 : ¬ gOnly u (0, 0) := fun z => hu0 z.symm
  obtain ⟨Ea1, e, Ea2, hE, hl1⟩ := splitAt Ea ((Ea.length - 1) / 2) (by omega)
  have hle : Ea.length = Ea1.length + (Ea2.length + 1) := by rw [hE, List.length_append, List.length_cons]
  unfold wJ1_buildFromSorted_2_L2
  refine br_t (nI_le (by omega) (by omega)) (hlet_i ?_)
  rw [s_mid hn1 hlo, ← hl1]
  -- from the middle node on
  have R : ∀ (oB : gO) (GB GL : hG) (oL : gO) (N1 : List Nat) (k1 : Nat → Wd) (v1 : Nat → Option Nat) (sub1 : Nat → List Nat) (r1 : Option Nat) (m a : Nat), pIM oB GB us ts (E1 ++ Ea1 ++ [e]) (Ea2 ++ E2) it w ci → gFr (gOnly w) o G oB GB → pTr oL GL u N1 k1 v1 sub1 r1 → N1.map (fun n => (k1 n, v1 n)) = Ea1 → (∀ b, b ∈ N1 → hC GB b = some (10, true) ∧ oB b = u ∧ hI GB b = hI GL b) → (∀ b j, b ∈ N1 → hR GB b j = if r1 = some b ∧ j = 4 then some m else hR GL b j) → (∀ x l, pW oL GL x l → pW oB GB x l) → hC GB m = some (10, true) → oB m = u → hR GB m 0 = some a → pW oB GB a e.1 → hR GB m 1 = e.2 → (hI GB m 5 = 0 ∨ hI GB m 5 = 1) → hR GB m 2 = r1 → hR GB m 3 = none → hR GB m 4 = none → m ∉ N1 → (∀ x, x ∈ N1 → hC G x = none) → hC G m = none → ∀ (lo' : Nat), wJ1_buildFromSorted_2_L2_b173 Q t lev (nI (lo + Ea.length - 1)) red it none dv (nI (lo + Ea1.length)) m GB := by
    intro oB GB GL oL N1 k1 v1 sub1 r1 m a hIB fB h1 hm1 c1 g1 w1 mc mo mk mw mv m5 m2 m3 m4 mN fN fm _
    have htB := fB.C ht
    unfold wJ1_buildFromSorted_2_L2_b173 wJ1_buildFromSorted_2_L2_b215
    have hb : ∀ b, b ∈ N1 → b ≠ m := fun b hb z => mN (by rw [← z]; exact hb)
    by_cases c2 : Ea2.length = 0
    · have e2 : Ea2 = [] := List.eq_nil_of_length_eq_zero c2
      refine br_t (nI_le (by omega) (by omega)) ?_
      obtain ⟨kk, vv, sub', a1, a2⟩ := s_bEnd (o' := oB) (G' := GB) (GD := GB) (oD := oB) (N2 := []) (k2 := k1) (v2 := v1) (sub2 := sub1) (r2 := none) (m := m) (a := a) (e := e) h1 ⟨fun n hn => (nomatch hn), TI.nil⟩ mN (by simp) (fun x hx => by simp) rfl mc mo mk mw mv m5 m2 m3 m4 c1 g1 (fun b hb => (nomatch hb)) (fun b j hb => (nomatch hb)) w1 (fun x l h => h)
      refine hQ oB GB (N1 ++ m :: []) kk vv sub' m ?_ a1 ?_ (fun x hx => ?_) fB
      · rw [hE, e2]
        rw [e2] at hIB
        simpa using hIB
      · rw [a2, hm1, hE, e2]
        rfl
      · rcases List.mem_append.mp hx with z | z
        · exact fN x z
        · rw [List.mem_singleton.mp z]
          exact fm
    · refine br_f (nI_ge (by omega) (by omega)) ⟨hclt htB, ?_⟩
      rw [show nI (lo + Ea1.length) + (1 : Int32) = nI (lo + Ea1.length + 1) from nI_1 _, show lo + Ea.length - 1 = (lo + Ea1.length + 1) + Ea2.length - 1 by omega]
      refine s_bL1 _ oB GB u us w t ts it ci dv _ red (lo + Ea1.length + 1) (E1 ++ Ea1 ++ [e]) Ea2 E2 huw husw husu hw0 hu0 htB (hk.sub (fun x hx => by rw [hE]; exact List.mem_append_right _ (List.mem_cons_of_mem _ hx))) hIB (by omega) (by omega) (by omega) fun o' G' N2 k2 v2 sub2 r2 b1 b2 b3 b4 b5 => ?_
      have m' := b5.C mc
      have r2N : r2 ∈ N2 := (b2.2.rp rfl).1
      have r2c := (b2.1 r2 r2N).1
      have sN : ∀ b, b ∈ N1 → hSm GB G' b := fun b hb => b5.S (c1 b hb).1 (c1 b hb).2.1 fw
      have sm := b5.S mc mo fw
      have nN2 : ∀ b, hC GB b = some (10, true) → b ∉ N2 := fun b hb z => by
        have := b4 b z
        rw [hb] at this
        cases this
      have mr2 : m ≠ r2 := fun z => nN2 m mc (by rw [z]; exact r2N)
      refine ⟨m', hlet_i ⟨r2, rfl, by rw [hC_sR]; exact r2c, hlet_i ?_⟩⟩
      have f3 : gFr (gOnly u) o' G' o' (hsR (hsR G' m 3 (some r2)) r2 4 (some m)) := ((gFr.rf (M := gOnly u)).sR (Or.inr ((b5.O mc).trans mo))).sR (Or.inr (b2.1 r2 r2N).2.1)
      have fG : gFr (gOnly w) o G o' (hsR (hsR G' m 3 (some r2)) r2 4 (some m)) := ((fB.tr b5).sR (Or.inl fm)).sR (Or.inl (fB.fresh (b4 r2 r2N)))
      have rr : ∀ b j, hR (hsR (hsR G' m 3 (some r2)) r2 4 (some m)) b j = if b = r2 ∧ j = 4 then some m else if b = m ∧ j = 3 then some r2 else hR G' b j := fun b j => by rw [hR_sR, hR_sR]
      have rm : ∀ j, j ≠ 3 → hR (hsR (hsR G' m 3 (some r2)) r2 4 (some m)) m j = hR GB m j := fun j hj => by
        rw [rr, if_neg (fun z => mr2 z.1), if_neg (fun z => hj z.2)]
        exact congrFun sm.2.2.2 j
      obtain ⟨kk, vv, sub', a1, a2⟩ := s_bEnd (o' := o') (G' := hsR (hsR G' m 3 (some r2)) r2 4 (some m)) (GD := G') (oD := o') (N2 := N2) (k2 := k2) (v2 := v2) (sub2 := sub2) (r2 := some r2) (m := m) (a := a) (e := e) h1 b2 mN (nN2 m mc) (fun x hx => nN2 x (c1 x hx).1) rfl m' ((b5.O mc).trans mo) ((rm 0 (by decide)).trans mk) ((mw.fr b5 f0).fr f3 fu0) ((rm 1 (by decide)).trans mv) (by rw [hI_sR, hI_sR, sm.2.1]; exact m5) ((rm 2 (by decide)).trans m2) (by rw [rr, if_neg (fun z => mr2 z.1), if_pos ⟨rfl, rfl⟩]) ((rm 4 (by decide)).trans m4) (fun b hb => ⟨b5.C (c1 b hb).1, (b5.O (c1 b hb).1).trans (c1 b hb).2.1, by rw [hI_sR, hI_sR, (sN b hb).2.1]; exact (c1 b hb).2.2⟩) (fun b j hb' => by
          rw [rr, if_neg (fun z => nN2 b (c1 b hb').1 (by rw [z.1]; exact r2N)), if_neg (fun z => hb b hb' z.1), (sN b hb').2.2.2]
          exact g1 b j hb') (fun b hb => ⟨(b2.1 b hb).1, (b2.1 b hb).2.1, rfl⟩) (fun b j hb' => by
          have bm : b ≠ m := fun z => nN2 m mc (by rw [← z]; exact hb')
          rw [rr]
          by_cases c : b = r2 ∧ j = 4
          · rw [if_pos c, if_pos ⟨by rw [c.1], c.2⟩]
          · rw [if_neg c, if_neg (fun z => bm z.1), if_neg (fun z => c ⟨(Option.some.inj z.1).symm, z.2⟩)]) (fun x l h => ((w1 x l h).fr b5 f0).fr f3 fu0) (fun x l h => h.fr f3 fu0)
      refine hQ o' _ (N1 ++ m :: N2) kk vv sub' m ?_ a1 ?_ (fun x hx => ?_) fG
      · rw [hE]
        have := b1.fr f3 husu (fun z => huw z.symm) fu0
        simpa using this
      · rw [a2, hm1, b3, hE]
      · rcases List.mem_append.mp hx with z | z
        · exact fN x z
        · rcases List.mem_cons.mp z with z | z
          · rw [z]
            exact fm
          · exact fB.fresh (b4 x z)
  -- the middle node is made
  have Mk : ∀ (oL : gO) (GL : hG) (N1 : List Nat) (k1 : Nat → Wd) (v1 : Nat → Option Nat) (sub1 : Nat → List Nat) (r1 : Option Nat), pIM oL GL us ts (E1 ++ Ea1) (e :: (Ea2 ++ E2)) it w ci → gFr (gOnly w) o G oL GL → pTr oL GL u N1 k1 v1 sub1 r1 → N1.map (fun n => (k1 n, v1 n)) = Ea1 → (∀ x, x ∈ N1 → hC G x = none) → wJ1_buildFromSorted_2_L2_b45 Q t lev (nI (lo + Ea.length - 1)) red (some it) none dv (nI (lo + Ea1.length)) r1 GL := by
    intro oL GL N1 k1 v1 sub1 r1 hIL fL h1 hm1 fN
    have N128 : ∀ G1 a, pIM oL G1 us ts (E1 ++ Ea1 ++ [e]) (Ea2 ++ E2) it w ci → gFr (gOnly w) oL GL oL G1 → pW oL G1 a e.1 → wJ1_buildFromSorted_2_L2_b128 Q t lev (nI (lo + Ea.length - 1)) red it none dv (nI (lo + Ea1.length)) r1 (some a) e.2 G1 := by
      intro G1 a hI1 f1 ha
      have fG1 := fL.tr f1
      have h11 := h1.fr f1 fw f0
      unfold wJ1_buildFromSorted_2_L2_b128
      intro q hq
      have qN : ∀ b, b ∈ N1 → b ≠ q := fun b hb z => by
        have := (h11.1 b hb).1
        rw [z, hq] at this
        cases this
      have qG : hC G q = none := fG1.fresh hq
      refine hlet_i (s_newE (by rw [hC_nw, if_pos rfl]) ?_)
      have N154 : ∀ G2, hC G2 = hC (hnw G1 q 10 0) → hN G2 = hN (hnw G1 q 10 0) → hJ G2 = hJ (hnw G1 q 10 0) → hK G2 = hK G1 → (∀ b j, b ≠ q → hI G2 b j = hI G1 b j) → (hI G2 q 5 = 0 ∨ hI G2 q 5 = 1) → (∀ b j, hR G2 b j = if b = q then (if j = 4 then none else if j = 1 then e.2 else if j = 0 then some a else none) else hR G1 b j) → wJ1_buildFromSorted_2_L2_b154 Q t lev (nI (lo + Ea.length - 1)) red it none dv (nI (lo + Ea1.length)) r1 q G2 := by
        intro G2 x1 x2 x3 x4 x5 x6 x7
        have f2 : ∀ M, gFr M oL G1 (gU oL q u) G2 := fun M => ⟨fun b c hb => by
          have e9 : b ≠ q := fun z => by rw [z, hq] at hb; cases hb
          refine ⟨by rw [x1, hC_nw, if_neg e9]; exact hb, gU_n e9, fun _ => ⟨by rw [x2, hN_nw, if_neg e9], funext fun j => x5 b j e9, by rw [x3]; funext j; rw [hJ_nw, if_neg e9], funext fun j => by rw [x7, if_neg e9]⟩⟩, x4⟩
        have cq : hC G2 q = some (10, true) := by rw [x1, hC_nw, if_pos rfl]
        have r0 : hR G2 q 0 = some a := by rw [x7, if_pos rfl]; rfl
        have rv : hR G2 q 1 = e.2 := by rw [x7, if_pos rfl]; rfl
        have rz : ∀ j, 2 ≤ j → hR G2 q j = none := fun j hj => by
          rw [x7, if_pos rfl]
          by_cases c4 : j = 4
          · rw [if_pos c4]
          · rw [if_neg c4, if_neg (by omega), if_neg (by omega)]
        have hI2 := hI1.fr (f2 gNo) (fun z => z) (fun z => z) (fun z => z)
        have fG2 := fG1.tr (f2 (gOnly w))
        unfold wJ1_buildFromSorted_2_L2_b154
        cases hr : r1 with
        | none =>
          refine cm_none (R (gU oL q u) G2 G1 oL N1 k1 v1 sub1 r1 q a hI2 fG2 h11 hm1 (fun b hb => ?_) (fun b j hb => ?_) (fun x l h => h.fr (f2 gNo) (fun z => z)) cq gU_s r0 (ha.fr (f2 gNo) (fun z => z)) rv x6 (by rw [hr]; exact rz 2 (by decide)) (rz 3 (by decide)) (rz 4 (by decide)) (fun z => qN q z rfl) fN qG 0)
          · have := h11.1 b hb
            exact ⟨(f2 gNo).C this.1, ((f2 gNo).O this.1).trans this.2.1, funext fun j => x5 b j (qN b hb)⟩
          · rw [hr, if_neg (fun z => by cases z.1), x7, if_neg (qN b hb)]
        | some l =>
          have hlN : l ∈ N1 := (h1.2.rp hr).1
          have hlc := h11.1 l hlN
          have lq := qN l hlN
          refine cm_some ⟨cq, hlet_i ⟨by rw [hC_sR, x1, hC_nw, if_neg lq]; exact hlc.1, hlet_i ?_⟩⟩
          have f3 : gFr (gOnly u) (gU oL q u) G2 (gU oL q u) (hsR (hsR G2 q 2 (some l)) l 4 (some q)) := ((gFr.rf (M := gOnly u)).sR (Or.inr gU_s)).sR (Or.inr (((f2 gNo).O hlc.1).trans hlc.2.1))
          have fG3 : gFr (gOnly w) o G (gU oL q u) (hsR (hsR G2 q 2 (some l)) l 4 (some q)) := (fG2.sR (Or.inl qG)).sR (Or.inl (fN l hlN))
          refine R (gU oL q u) _ G1 oL N1 k1 v1 sub1 r1 q a (hI2.fr f3 husu (fun z => huw z.symm) fu0) fG3 h11 hm1 (fun b hb => ?_) (fun b j hb => ?_) (fun x l h => (h.fr (f2 gNo) (fun z => z)).fr f3 fu0) cq gU_s ?_ ((ha.fr (f2 gNo) (fun z => z)).fr f3 fu0) ?_ x6 ?_ ?_ ?_ (fun z => qN q z rfl) fN qG 0
          · have := h11.1 b hb
            exact ⟨(f2 gNo).C this.1, ((f2 gNo).O this.1).trans this.2.1, funext fun j => x5 b j (qN b hb)⟩
          · rw [hR_sR, hR_sR, x7, if_neg (qN b hb), hr]
            by_cases c : b = l ∧ j = 4
            · rw [if_pos c, if_pos ⟨by rw [c.1], c.2⟩]
            · rw [if_neg c, if_neg (fun z => qN b hb z.1), if_neg (fun z => c ⟨(Option.some.inj z.1).symm, z.2⟩)]
          · rw [hR_sR, if_neg (fun z => lq z.1.symm), hR_sR, if_neg (fun z => by have := z.2; omega)]
            exact r0
          · rw [hR_sR, if_neg (fun z => lq z.1.symm), hR_sR, if_neg (fun z => by have := z.2; omega)]
            exact rv
          · rw [hR_sR, if_neg (fun z => lq z.1.symm), hR_sR, if_pos ⟨rfl, rfl⟩, hr]
          · rw [hR_sR, if_neg (fun z => lq z.1.symm), hR_sR, if_neg (fun z => by have := z.2; omega)]
            exact rz 3 (by decide)
          · rw [hR_sR, if_neg (fun z => lq z.1.symm), hR_sR, if_neg (fun z => by have := z.2; omega)]
            exact rz 4 (by decide)
      have rr : ∀ b j, hR (hsR (hsR (hsR (hsI (hnw G1 q 10 0) q 5 1) q 0 (some a)) q 1 e.2) q 4 none) b j = if b = q then (if j = 4 then none else if j = 1 then e.2 else if j = 0 then some a else none) else hR G1 b j := by
        intro b j
        rw [hR_sR, hR_sR, hR_sR, hR_sI, hR_nw]
        by_cases c : b = q
        · rw [if_pos c, if_pos c]
          by_cases c4 : j = 4
          · rw [if_pos ⟨c, c4⟩, if_pos c4]
          · rw [if_neg (fun z => c4 z.2), if_neg c4]
            by_cases c3 : j = 1
            · rw [if_pos ⟨c, c3⟩, if_pos c3]
            · rw [if_neg (fun z => c3 z.2), if_neg c3]
              by_cases c0 : j = 0
              · rw [if_pos ⟨c, c0⟩, if_pos c0]
              · rw [if_neg (fun z => c0 z.2), if_neg c0]
        · rw [if_neg (fun z => c z.1), if_neg (fun z => c z.1), if_neg (fun z => c z.1), if_neg c, if_neg c]
      refine br_c (fun _ => ⟨by rw [hC_sR, hC_sR, hC_sR, hC_sI, hC_nw, if_pos rfl], hlet_i ?_⟩) (fun _ => ?_)
      · refine N154 _ rfl rfl rfl rfl (fun b j hb => ?_) (Or.inl ?_) (fun b j => ?_)
        · rw [hI_sI, if_neg (fun z => hb z.1), hI_sR, hI_sR, hI_sR, hI_sI, if_neg (fun z => hb z.1), hI_nw, if_neg hb]
        · rw [hI_sI, if_pos ⟨rfl, rfl⟩]
        · rw [hR_sI]
          exact rr b j
      · refine N154 _ rfl rfl rfl rfl (fun b j hb => ?_) (Or.inr ?_) rr
        · rw [hI_sR, hI_sR, hI_sR, hI_sI, if_neg (fun z => hb z.1), hI_nw, if_neg hb]
        · rw [hI_sR, hI_sR, hI_sR, hI_sI, if_pos ⟨rfl, rfl⟩]
    unfold wJ1_buildFromSorted_2_L2_b45
    refine cm_some ?_
    rcases hk with ⟨k1', k2'⟩ | ⟨k1', P, k2', k3'⟩
    · subst k1' k2'
      refine cm_none ⟨hclt hIL.ic, s_next13 hIL husw.symm hw0 fun G' n b1 b2 b3 b4 b5 => ⟨fun y z => by cases z; exact hclt b3, n, rfl, hclt b3, ?_⟩⟩
      obtain ⟨a, b6, b7⟩ := b4
      unfold wJ22_getKey
      refine ⟨hclt b3, hlet_i ⟨hclt b3, ?_⟩⟩
      unfold wJ22_getValue
      refine ⟨hclt b3, hlet_i ?_⟩
      rw [b6, b5]
      exact N128 G' a b1 b2 b7
    · subst k1' k2'
      refine cm_some ⟨hclt hIL.ic, s_next11 hIL husw.symm hw0 fun G' a b1 b2 b3 => ?_⟩
      have := N128 G' a b1 b2 b3
      rw [k3' e (by rw [hE]; simp)] at this
      exact this
  by_cases c1 : Ea1.length = 0
  · have e1 : Ea1 = [] := List.eq_nil_of_length_eq_zero c1
    refine br_t (nI_le (by omega) (by omega)) ?_
    refine Mk o G [] (fun _ => []) (fun _ => none) (fun _ => []) none ?_ gFr.rf ⟨fun n hn => (nomatch hn), TI.nil⟩ (by rw [e1]; rfl) (fun x hx => (nomatch hx))
    rw [e1]
    rw [hE, e1] at hIt
    simpa using hIt
  · refine br_f (nI_ge (by omega) (by omega)) ⟨hclt ht, ?_⟩
    rw [show (1 : Int32) = nI 1 from rfl, nI_sub (by omega)]
    refine s_bL1 _ o G u us w t ts it ci dv _ red lo E1 Ea1 (e :: (Ea2 ++ E2)) huw husw husu hw0 hu0 ht (hk.sub (fun x hx => by rw [hE]; exact List.mem_append_left _ hx)) ?_ (by omega) (by omega) (by omega) fun o' G' N kk vv sub r a1 a2 a3 a4 a5 => ?_
    · rw [hE] at hIt
      simpa using hIt
    · exact Mk o' G' N kk vv sub (some r) a1 a5 a2 a3 a4
theorem s_bL3 : bSpec wJ1_buildFromSorted_2_L3 15 := by
  intro Q o G u us w t ts it ci dv lev red lo E1 Ea E2 huw husw husu hw0 hu0 ht hk hIt hn1 hn2 hlo hQ
  have f0 : ¬ gOnly w (0, 0) := fun z => hw0 z.symm
  have fw : ¬ gOnly w u := fun z => huw z
  have fu0 : ¬ gOnly u (0, 0) := fun z => hu0 z.symm
  obtain ⟨Ea1, e, Ea2, hE, hl1⟩ := splitAt Ea ((Ea.length - 1) / 2) (by omega)
  have hle : Ea.length = Ea1.length + (Ea2.length + 1) := by rw [hE, List.length_append, List.length_cons]
  unfold wJ1_buildFromSorted_2_L3
  refine br_t (nI_le (by omega) (by omega)) (hlet_i ?_)
  rw [s_mid hn1 hlo, ← hl1]
  -- from the middle node on
  have R : ∀ (oB : gO) (GB GL : hG) (oL : gO) (N1 : List Nat) (k1 : Nat → Wd) (v1 : Nat → Option Nat) (sub1 : Nat → List Nat) (r1 : Option Nat) (m a : Nat), pIM oB GB us ts (E1 ++ Ea1 ++ [e]) (Ea2 ++ E2) it w ci → gFr (gOnly w) o G oB GB → pTr oL GL u N1 k1 v1 sub1 r1 → N1.map (fun n => (k1 n, v1 n)) = Ea1 → (∀ b, b ∈ N1 → hC GB b = some (10, true) ∧ oB b = u ∧ hI GB b = hI GL b) → (∀ b j, b ∈ N1 → hR GB b j = if r1 = some b ∧ j = 4 then some m else hR GL b j) → (∀ x l, pW oL GL x l → pW oB GB x l) → hC GB m = some (10, true) → oB m = u → hR GB m 0 = some a → pW oB GB a e.1 → hR GB m 1 = e.2 → (hI GB m 5 = 0 ∨ hI GB m 5 = 1) → hR GB m 2 = r1 → hR GB m 3 = none → hR GB m 4 = none → m ∉ N1 → (∀ x, x ∈ N1 → hC G x = none) → hC G m = none → ∀ (lo' : Nat), wJ1_buildFromSorted_2_L3_b173 Q t lev (nI (lo + Ea.length - 1)) red it none dv (nI (lo + Ea1.length)) m GB := by
    intro oB GB GL oL N1 k1 v1 sub1 r1 m a hIB fB h1 hm1 c1 g1 w1 mc mo mk mw mv m5 m2 m3 m4 mN fN fm _
    have htB := fB.C ht
    unfold wJ1_buildFromSorted_2_L3_b173 wJ1_buildFromSorted_2_L3_b215
    have hb : ∀ b, b ∈ N1 → b ≠ m := fun b hb z => mN (by rw [← z]; exact hb)
    by_cases c2 : Ea2.length = 0
    · have e2 : Ea2 = [] := List.eq_nil_of_length_eq_zero c2
      refine br_t (nI_le (by omega) (by omega)) ?_
      obtain ⟨kk, vv, sub', a1, a2⟩ := s_bEnd (o' := oB) (G' := GB) (GD := GB) (oD := oB) (N2 := []) (k2 := k1) (v2 := v1) (sub2 := sub1) (r2 := none) (m := m) (a := a) (e := e) h1 ⟨fun n hn => (nomatch hn), TI.nil⟩ mN (by simp) (fun x hx => by simp) rfl mc mo mk mw mv m5 m2 m3 m4 c1 g1 (fun b hb => (nomatch hb)) (fun b j hb => (nomatch hb)) w1 (fun x l h => h)
      refine hQ oB GB (N1 ++ m :: []) kk vv sub' m ?_ a1 ?_ (fun x hx => ?_) fB
      · rw [hE, e2]
        rw [e2] at hIB
        simpa using hIB
      · rw [a2, hm1, hE, e2]
        rfl
      · rcases List.mem_append.mp hx with z | z
        · exact fN x z
        · rw [List.mem_singleton.mp z]
          exact fm
    · refine br_f (nI_ge (by omega) (by omega)) ⟨hclt htB, ?_⟩
      rw [show nI (lo + Ea1.length) + (1 : Int32) = nI (lo + Ea1.length + 1) from nI_1 _, show lo + Ea.length - 1 = (lo + Ea1.length + 1) + Ea2.length - 1 by omega]
      refine s_bL2 _ oB GB u us w t ts it ci dv _ red (lo + Ea1.length + 1) (E1 ++ Ea1 ++ [e]) Ea2 E2 huw husw husu hw0 hu0 htB (hk.sub (fun x hx => by rw [hE]; exact List.mem_append_right _ (List.mem_cons_of_mem _ hx))) hIB (by omega) (by omega) (by omega) fun o' G' N2 k2 v2 sub2 r2 b1 b2 b3 b4 b5 => ?_
      have m' := b5.C mc
      have r2N : r2 ∈ N2 := (b2.2.rp rfl).1
      have r2c := (b2.1 r2 r2N).1
      have sN : ∀ b, b ∈ N1 → hSm GB G' b := fun b hb => b5.S (c1 b hb).1 (c1 b hb).2.1 fw
      have sm := b5.S mc mo fw
      have nN2 : ∀ b, hC GB b = some (10, true) → b ∉ N2 := fun b hb z => by
        have := b4 b z
        rw [hb] at this
        cases this
      have mr2 : m ≠ r2 := fun z => nN2 m mc (by rw [z]; exact r2N)
      refine ⟨m', hlet_i ⟨r2, rfl, by rw [hC_sR]; exact r2c, hlet_i ?_⟩⟩
      have f3 : gFr (gOnly u) o' G' o' (hsR (hsR G' m 3 (some r2)) r2 4 (some m)) := ((gFr.rf (M := gOnly u)).sR (Or.inr ((b5.O mc).trans mo))).sR (Or.inr (b2.1 r2 r2N).2.1)
      have fG : gFr (gOnly w) o G o' (hsR (hsR G' m 3 (some r2)) r2 4 (some m)) := ((fB.tr b5).sR (Or.inl fm)).sR (Or.inl (fB.fresh (b4 r2 r2N)))
      have rr : ∀ b j, hR (hsR (hsR G' m 3 (some r2)) r2 4 (some m)) b j = if b = r2 ∧ j = 4 then some m else if b = m ∧ j = 3 then some r2 else hR G' b j := fun b j => by rw [hR_sR, hR_sR]
      have rm : ∀ j, j ≠ 3 → hR (hsR (hsR G' m 3 (some r2)) r2 4 (some m)) m j = hR GB m j := fun j hj => by
        rw [rr, if_neg (fun z => mr2 z.1), if_neg (fun z => hj z.2)]
        exact congrFun sm.2.2.2 j
      obtain ⟨kk, vv, sub', a1, a2⟩ := s_bEnd (o' := o') (G' := hsR (hsR G' m 3 (some r2)) r2 4 (some m)) (GD := G') (oD := o') (N2 := N2) (k2 := k2) (v2 := v2) (sub2 := sub2) (r2 := some r2) (m := m) (a := a) (e := e) h1 b2 mN (nN2 m mc) (fun x hx => nN2 x (c1 x hx).1) rfl m' ((b5.O mc).trans mo) ((rm 0 (by decide)).trans mk) ((mw.fr b5 f0).fr f3 fu0) ((rm 1 (by decide)).trans mv) (by rw [hI_sR, hI_sR, sm.2.1]; exact m5) ((rm 2 (by decide)).trans m2) (by rw [rr, if_neg (fun z => mr2 z.1), if_pos ⟨rfl, rfl⟩]) ((rm 4 (by decide)).trans m4) (fun b hb => ⟨b5.C (c1 b hb).1, (b5.O (c1 b hb).1).trans (c1 b hb).2.1, by rw [hI_sR, hI_sR, (sN b hb).2.1]; exact (c1 b hb).2.2⟩) (fun b j hb' => by
          rw [rr, if_neg (fun z => nN2 b (c1 b hb').1 (by rw [z.1]; exact r2N)), if_neg (fun z => hb b hb' z.1), (sN b hb').2.2.2]
          exact g1 b j hb') (fun b hb => ⟨(b2.1 b hb).1, (b2.1 b hb).2.1, rfl⟩) (fun b j hb' => by
          have bm : b ≠ m := fun z => nN2 m mc (by rw [← z]; exact hb')
          rw [rr]
          by_cases c : b = r2 ∧ j = 4
          · rw [if_pos c, if_pos ⟨by rw [c.1], c.2⟩]
          · rw [if_neg c, if_neg (fun z => bm z.1), if_neg (fun z => c ⟨(Option.some.inj z.1).symm, z.2⟩)]) (fun x l h => ((w1 x l h).fr b5 f0).fr f3 fu0) (fun x l h => h.fr f3 fu0)
      refine hQ o' _ (N1 ++ m :: N2) kk vv sub' m ?_ a1 ?_ (fun x hx => ?_) fG
      · rw [hE]
        have := b1.fr f3 husu (fun z => huw z.symm) fu0
        simpa using this
      · rw [a2, hm1, b3, hE]
      · rcases List.mem_append.mp hx with z | z
        · exact fN x z
        · rcases List.mem_cons.mp z with z | z
          · rw [z]
            exact fm
          · exact fB.fresh (b4 x z)
  -- the middle node is made
  have Mk : ∀ (oL : gO) (GL : hG) (N1 : List Nat) (k1 : Nat → Wd) (v1 : Nat → Option Nat) (sub1 : Nat → List Nat) (r1 : Option Nat), pIM oL GL us ts (E1 ++ Ea1) (e :: (Ea2 ++ E2)) it w ci → gFr (gOnly w) o G oL GL → pTr oL GL u N1 k1 v1 sub1 r1 → N1.map (fun n => (k1 n, v1 n)) = Ea1 → (∀ x, x ∈ N1 → hC G x = none) → wJ1_buildFromSorted_2_L3_b45 Q t lev (nI (lo + Ea.length - 1)) red (some it) none dv (nI (lo + Ea1.length)) r1 GL := by
    intro oL GL N1 k1 v1 sub1 r1 hIL fL h1 hm1 fN
    have N128 : ∀ G1 a, pIM oL G1 us ts (E1 ++ Ea1 ++ [e]) (Ea2 ++ E2) it w ci → gFr (gOnly w) oL GL oL G1 → pW oL G1 a e.1 → wJ1_buildFromSorted_2_L3_b128 Q t lev (nI (lo + Ea.length - 1)) red it none dv (nI (lo + Ea1.length)) r1 (some a) e.2 G1 := by
      intro G1 a hI1 f1 ha
      have fG1 := fL.tr f1
      have h11 := h1.fr f1 fw f0
      unfold wJ1_buildFromSorted_2_L3_b128
      intro q hq
      have qN : ∀ b, b ∈ N1 → b ≠ q := fun b hb z => by
        have := (h11.1 b hb).1
        rw [z, hq] at this
        cases this
      have qG : hC G q = none := fG1.fresh hq
      refine hlet_i (s_newE (by rw [hC_nw, if_pos rfl]) ?_)
      have N154 : ∀ G2, hC G2 = hC (hnw G1 q 10 0) → hN G2 = hN (hnw G1 q 10 0) → hJ G2 = hJ (hnw G1 q 10 0) → hK G2 = hK G1 → (∀ b j, b ≠ q → hI G2 b j = hI G1 b j) → (hI G2 q 5 = 0 ∨ hI G2 q 5 = 1) → (∀ b j, hR G2 b j = if b = q then (if j = 4 then none else if j = 1 then e.2 else if j = 0 then some a else none) else hR G1 b j) → wJ1_buildFromSorted_2_L3_b154 Q t lev (nI (lo + Ea.length - 1)) red it none dv (nI (lo + Ea1.length)) r1 q G2 := by
        intro G2 x1 x2 x3 x4 x5 x6 x7
        have f2 : ∀ M, gFr M oL G1 (gU oL q u) G2 := fun M => ⟨fun b c hb => by
          have e9 : b ≠ q := fun z => by rw [z, hq] at hb; cases hb
          refine ⟨by rw [x1, hC_nw, if_neg e9]; exact hb, gU_n e9, fun _ => ⟨by rw [x2, hN_nw, if_neg e9], funext fun j => x5 b j e9, by rw [x3]; funext j; rw [hJ_nw, if_neg e9], funext fun j => by rw [x7, if_neg e9]⟩⟩, x4⟩
        have cq : hC G2 q = some (10, true) := by rw [x1, hC_nw, if_pos rfl]
        have r0 : hR G2 q 0 = some a := by rw [x7, if_pos rfl]; rfl
        have rv : hR G2 q 1 = e.2 := by rw [x7, if_pos rfl]; rfl
        have rz : ∀ j, 2 ≤ j → hR G2 q j = none := fun j hj => by
          rw [x7, if_pos rfl]
          by_cases c4 : j = 4
          · rw [if_pos c4]
          · rw [if_neg c4, if_neg (by omega), if_neg (by omega)]
        have hI2 := hI1.fr (f2 gNo) (fun z => z) (fun z => z) (fun z => z)
        have fG2 := fG1.tr (f2 (gOnly w))
        unfold wJ1_buildFromSorted_2_L3_b154
        cases hr : r1 with
        | none =>
          refine cm_none (R (gU oL q u) G2 G1 oL N1 k1 v1 sub1 r1 q a hI2 fG2 h11 hm1 (fun b hb => ?_) (fun b j hb => ?_) (fun x l h => h.fr (f2 gNo) (fun z => z)) cq gU_s r0 (ha.fr (f2 gNo) (fun z => z)) rv x6 (by rw [hr]; exact rz 2 (by decide)) (rz 3 (by decide)) (rz 4 (by decide)) (fun z => qN q z rfl) fN qG 0)
          · have := h11.1 b hb
            exact ⟨(f2 gNo).C this.1, ((f2 gNo).O this.1).trans this.2.1, funext fun j => x5 b j (qN b hb)⟩
          · rw [hr, if_neg (fun z => by cases z.1), x7, if_neg (qN b hb)]
        | some l =>
          have hlN : l ∈ N1 := (h1.2.rp hr).1
          have hlc := h11.1 l hlN
          have lq := qN l hlN
          refine cm_some ⟨cq, hlet_i ⟨by rw [hC_sR, x1, hC_nw, if_neg lq]; exact hlc.1, hlet_i ?_⟩⟩
          have f3 : gFr (gOnly u) (gU oL q u) G2 (gU oL q u) (hsR (hsR G2 q 2 (some l)) l 4 (some q)) := ((gFr.rf (M := gOnly u)).sR (Or.inr gU_s)).sR (Or.inr (((f2 gNo).O hlc.1).trans hlc.2.1))
          have fG3 : gFr (gOnly w) o G (gU oL q u) (hsR (hsR G2 q 2 (some l)) l 4 (some q)) := (fG2.sR (Or.inl qG)).sR (Or.inl (fN l hlN))
          refine R (gU oL q u) _ G1 oL N1 k1 v1 sub1 r1 q a (hI2.fr f3 husu (fun z => huw z.symm) fu0) fG3 h11 hm1 (fun b hb => ?_) (fun b j hb => ?_) (fun x l h => (h.fr (f2 gNo) (fun z => z)).fr f3 fu0) cq gU_s ?_ ((ha.fr (f2 gNo) (fun z => z)).fr f3 fu0) ?_ x6 ?_ ?_ ?_ (fun z => qN q z rfl) fN qG 0
          · have := h11.1 b hb
            exact ⟨(f2 gNo).C this.1, ((f2 gNo).O this.1).trans this.2.1, funext fun j => x5 b j (qN b hb)⟩
          · rw [hR_sR, hR_sR, x7, if_neg (qN b hb), hr]
            by_cases c : b = l ∧ j = 4
            · rw [if_pos c, if_pos ⟨by rw [c.1], c.2⟩]
            · rw [if_neg c, if_neg (fun z => qN b hb z.1), if_neg (fun z => c ⟨(Option.some.inj z.1).symm, z.2⟩)]
          · rw [hR_sR, if_neg (fun z => lq z.1.symm), hR_sR, if_neg (fun z => by have := z.2; omega)]
            exact r0
          · rw [hR_sR, if_neg (fun z => lq z.1.symm), hR_sR, if_neg (fun z => by have := z.2; omega)]
            exact rv
          · rw [hR_sR, if_neg (fun z => lq z.1.symm), hR_sR, if_pos ⟨rfl, rfl⟩, hr]
          · rw [hR_sR, if_neg (fun z => lq z.1.symm), hR_sR, if_neg (fun z => by have := z.2; omega)]
            exact rz 3 (by decide)
          · rw [hR_sR, if_neg (fun z => lq z.1.symm), hR_sR, if_neg (fun z => by have := z.2; omega)]
            exact rz 4 (by decide)
      have rr : ∀ b j, hR (hsR (hsR (hsR (hsI (hnw G1 q 10 0) q 5 1) q 0 (some a)) q 1 e.2) q 4 none) b j = if b = q then (if j = 4 then none else if j = 1 then e.2 else if j = 0 then some a else none) else hR G1 b j := by
        intro b j
        rw [hR_sR, hR_sR, hR_sR, hR_sI, hR_nw]
        by_cases c : b = q
        · rw [if_pos c, if_pos c]
          by_cases c4 : j = 4
          · rw [if_pos ⟨c, c4⟩, if_pos c4]
          · rw [if_neg (fun z => c4 z.2), if_neg c4]
            by_cases c3 : j = 1
            · rw [if_pos ⟨c, c3⟩, if_pos c3]
            · rw [if_neg (fun z => c3 z.2), if_neg c3]
              by_cases c0 : j = 0
              · rw [if_pos ⟨c, c0⟩, if_pos c0]
              · rw [if_neg (fun z => c0 z.2), if_neg c0]
        · rw [if_neg (fun z => c z.1), if_neg (fun z => c z.1), if_neg (fun z => c z.1), if_neg c, if_neg c]
      refine br_c (fun _ => ⟨by rw [hC_sR, hC_sR, hC_sR, hC_sI, hC_nw, if_pos rfl], hlet_i ?_⟩) (fun _ => ?_)
      · refine N154 _ rfl rfl rfl rfl (fun b j hb => ?_) (Or.inl ?_) (fun b j => ?_)
        · rw [hI_sI, if_neg (fun z => hb z.1), hI_sR, hI_sR, hI_sR, hI_sI, if_neg (fun z => hb z.1), hI_nw, if_neg hb]
        · rw [hI_sI, if_pos ⟨rfl, rfl⟩]
        · rw [hR_sI]
          exact rr b j
      · refine N154 _ rfl rfl rfl rfl (fun b j hb => ?_) (Or.inr ?_) rr
        · rw [hI_sR, hI_sR, hI_sR, hI_sI, if_neg (fun z => hb z.1), hI_nw, if_neg hb]
        · rw [hI_sR, hI_sR, hI_sR, hI_sI, if_pos ⟨rfl, rfl⟩]
    unfold wJ1_buildFromSorted_2_L3_b45
    refine cm_some ?_
    rcases hk with ⟨k1', k2'⟩ | ⟨k1', P, k2', k3'⟩
    · subst k1' k2'
      refine cm_none ⟨hclt hIL.ic, s_next13 hIL husw.symm hw0 fun G' n b1 b2 b3 b4 b5 => ⟨fun y z => by cases z; exact hclt b3, n, rfl, hclt b3, ?_⟩⟩
      obtain ⟨a, b6, b7⟩ := b4
      unfold wJ22_getKey
      refine ⟨hclt b3, hlet_i ⟨hclt b3, ?_⟩⟩
      unfold wJ22_getValue
      refine ⟨hclt b3, hlet_i ?_⟩
      rw [b6, b5]
      exact N128 G' a b1 b2 b7
    · subst k1' k2'
      refine cm_some ⟨hclt hIL.ic, s_next11 hIL husw.symm hw0 fun G' a b1 b2 b3 => ?_⟩
      have := N128 G' a b1 b2 b3
      rw [k3' e (by rw [hE]; simp)] at this
      exact this
  by_cases c1 : Ea1.length = 0
  · have e1 : Ea1 = [] := List.eq_nil_of_length_eq_zero c1
    refine br_t (nI_le (by omega) (by omega)) ?_
    refine Mk o G [] (fun _ => []) (fun _ => none) (fun _ => []) none ?_ gFr.rf ⟨fun n hn => (nomatch hn), TI.nil⟩ (by rw [e1]; rfl) (fun x hx => (nomatch hx))
    rw [e1]
    rw [hE, e1] at hIt
    simpa using hIt
  · refine br_f (nI_ge (by omega) (by omega)) ⟨hclt ht, ?_⟩
    rw [show (1 : Int32) = nI 1 from rfl, nI_sub (by omega)]
    refine s_bL2 _ o G u us w t ts it ci dv _ red lo E1 Ea1 (e :: (Ea2 ++ E2)) huw husw husu hw0 hu0 ht (hk.sub (fun x hx => by rw [hE]; exact List.mem_append_left _ hx)) ?_ (by omega) (by omega) (by omega) fun o' G' N kk vv sub r a1 a2 a3 a4 a5 => ?_
    · rw [hE] at hIt
      simpa using hIt
    · exact Mk o' G' N kk vv sub (some r) a1 a5 a2 a3 a4
theorem s_bL4 : bSpec wJ1_buildFromSorted_2_L4 31 := by
  intro Q o G u us w t ts it ci dv lev red lo E1 Ea E2 huw husw husu hw0 hu0 ht hk hIt hn1 hn2 hlo hQ
  have f0 : ¬ gOnly w (0, 0) := fun z => hw0 z.symm
  have fw : ¬ gOnly w u := fun z => huw z
  have fu0 : ¬ gOnly u (0, 0) := fun z => hu0 z.symm
  obtain ⟨Ea1, e, Ea2, hE, hl1⟩ := splitAt Ea ((Ea.length - 1) / 2) (by omega)
  have hle : Ea.length = Ea1.length + (Ea2.length + 1) := by rw [hE, List.length_append, List.length_cons]
  unfold wJ1_buildFromSorted_2_L4
  refine br_t (nI_le (by omega) (by omega)) (hlet_i ?_)
  rw [s_mid hn1 hlo, ← hl1]
  -- from the middle node on
  have R : ∀ (oB : gO) (GB GL : hG) (oL : gO) (N1 : List Nat) (k1 : Nat → Wd) (v1 : Nat → Option Nat) (sub1 : Nat → List Nat) (r1 : Option Nat) (m a : Nat), pIM oB GB us ts (E1 ++ Ea1 ++ [e]) (Ea2 ++ E2) it w ci → gFr (gOnly w) o G oB GB → pTr oL GL u N1 k1 v1 sub1 r1 → N1.map (fun n => (k1 n, v1 n)) = Ea1 → (∀ b, b ∈ N1 → hC GB b = some (10, true) ∧ oB b = u ∧ hI GB b = hI GL b) → (∀ b j, b ∈ N1 → hR GB b j = if r1 = some b ∧ j = 4 then some m else hR GL b j) → (∀ x l, pW oL GL x l → pW oB GB x l) → hC GB m = some (10, true) → oB m = u → hR GB m 0 = some a → pW oB GB a e.1 → hR GB m 1 = e.2 → (hI GB m 5 = 0 ∨ hI GB m 5 = 1) → hR GB m 2 = r1 → hR GB m 3 = none → hR GB m 4 = none → m ∉ N1 → (∀ x, x ∈ N1 → hC G x = none) → hC G m = none → ∀ (lo' : Nat), wJ1_buildFromSorted_2_L4_b173 Q t lev (nI (lo + Ea.length - 1)) red it none dv (nI (lo + Ea1.length)) m GB := by
    intro oB GB GL oL N1 k1 v1 sub1 r1 m a hIB fB h1 hm1 c1 g1 w1 mc mo mk mw mv m5 m2 m3 m4 mN fN fm _
    have htB := fB.C ht
    unfold wJ1_buildFromSorted_2_L4_b173 wJ1_buildFromSorted_2_L4_b215
    have hb : ∀ b, b ∈ N1 → b ≠ m := fun b hb z => mN (by rw [← z]; exact hb)
    by_cases c2 : Ea2.length = 0
    · have e2 : Ea2 = [] := List.eq_nil_of_length_eq_zero c2
      refine br_t (nI_le (by omega) (by omega)) ?_
      obtain ⟨kk, vv, sub', a1, a2⟩ := s_bEnd (o' := oB) (G' := GB) (GD := GB) (oD := oB) (N2 := []) (k2 := k1) (v2 := v1) (sub2 := sub1) (r2 := none) (m := m) (a := a) (e := e) h1 ⟨fun n hn => (nomatch hn), TI.nil⟩ mN (by simp) (fun x hx => by simp) rfl mc mo mk mw mv m5 m2 m3 m4 c1 g1 (fun b hb => (nomatch hb)) (fun b j hb => (nomatch hb)) w1 (fun x l h => h)
      refine hQ oB GB (N1 ++ m :: []) kk vv sub' m ?_ a1 ?_ (fun x hx => ?_) fB
      · rw [hE, e2]
        rw [e2] at hIB
        simpa using hIB
      · rw [a2, hm1, hE, e2]
        rfl
      · rcases List.mem_append.mp hx with z | z
        · exact fN x z
        · rw [List.mem_singleton.mp z]
          exact fm
    · refine br_f (nI_ge (by omega) (by omega)) ⟨hclt htB, ?_⟩
      rw [show nI (lo + Ea1.length) + (1 : Int32) = nI (lo + Ea1.length + 1) from nI_1 _, show lo + Ea.length - 1 = (lo + Ea1.length + 1) + Ea2.length - 1 by omega]
      refine s_bL3 _ oB GB u us w t ts it ci dv _ red (lo + Ea1.length + 1) (E1 ++ Ea1 ++ [e]) Ea2 E2 huw husw husu hw0 hu0 htB (hk.sub (fun x hx => by rw [hE]; exact List.mem_append_right _ (List.mem_cons_of_mem _ hx))) hIB (by omega) (by omega) (by omega) fun o' G' N2 k2 v2 sub2 r2 b1 b2 b3 b4 b5 => ?_
      have m' := b5.C mc
      have r2N : r2 ∈ N2 := (b2.2.rp rfl).1
      have r2c := (b2.1 r2 r2N).1
      have sN : ∀ b, b ∈ N1 → hSm GB G' b := fun b hb => b5.S (c1 b hb).1 (c1 b hb).2.1 fw
      have sm := b5.S mc mo fw
      have nN2 : ∀ b, hC GB b = some (10, true) → b ∉ N2 := fun b hb z => by
        have := b4 b z
        rw [hb] at this
        cases this
      have mr2 : m ≠ r2 := fun z => nN2 m mc (by rw [z]; exact r2N)
      refine ⟨m', hlet_i ⟨r2, rfl, by rw [hC_sR]; exact r2c, hlet_i ?_⟩⟩
      have f3 : gFr (gOnly u) o' G' o' (hsR (hsR G' m 3 (some r2)) r2 4 (some m)) := ((gFr.rf (M := gOnly u)).sR (Or.inr ((b5.O mc).trans mo))).sR (Or.inr (b2.1 r2 r2N).2.1)
      have fG : gFr (gOnly w) o G o' (hsR (hsR G' m 3 (some r2)) r2 4 (some m)) := ((fB.tr b5).sR (Or.inl fm)).sR (Or.inl (fB.fresh (b4 r2 r2N)))
      have rr : ∀ b j, hR (hsR (hsR G' m 3 (some r2)) r2 4 (some m)) b j = if b = r2 ∧ j = 4 then some m else if b = m ∧ j = 3 then some r2 else hR G' b j := fun b j => by rw [hR_sR, hR_sR]
      have rm : ∀ j, j ≠ 3 → hR (hsR (hsR G' m 3 (some r2)) r2 4 (some m)) m j = hR GB m j := fun j hj => by
        rw [rr, if_neg (fun z => mr2 z.1), if_neg (fun z => hj z.2)]
        exact congrFun sm.2.2.2 j
      obtain ⟨kk, vv, sub', a1, a2⟩ := s_bEnd (o' := o') (G' := hsR (hsR G' m 3 (some r2)) r2 4 (some m)) (GD := G') (oD := o') (N2 := N2) (k2 := k2) (v2 := v2) (sub2 := sub2) (r2 := some r2) (m := m) (a := a) (e := e) h1 b2 mN (nN2 m mc) (fun x hx => nN2 x (c1 x hx).1) rfl m' ((b5.O mc).trans mo) ((rm 0 (by decide)).trans mk) ((mw.fr b5 f0).fr f3 fu0) ((rm 1 (by decide)).trans mv) (by rw [hI_sR, hI_sR, sm.2.1]; exact m5) ((rm 2 (by decide)).trans m2) (by rw [rr, if_neg (fun z => mr2 z.1), if_pos ⟨rfl, rfl⟩]) ((rm 4 (by decide)).trans m4) (fun b hb => ⟨b5.C (c1 b hb).1, (b5.O (c1 b hb).1).trans (c1 b hb).2.1, by rw [hI_sR, hI_sR, (sN b hb).2.1]; exact (c1 b hb).2.2⟩) (fun b j hb' => by
          rw [rr, if_neg (fun z => nN2 b (c1 b hb').1 (by rw [z.1]; exact r2N)), if_neg (fun z => hb b hb' z.1), (sN b hb').2.2.2]
          exact g1 b j hb') (fun b hb => ⟨(b2.1 b hb).1, (b2.1 b hb).2.1, rfl⟩) (fun b j hb' => by
          have bm : b ≠ m := fun z => nN2 m mc (by rw [← z]; exact hb')
          rw [rr]
          by_cases c : b = r2 ∧ j = 4
          · rw [if_pos c, if_pos ⟨by rw [c.1], c.2⟩]
          · rw [if_neg c, if_neg (fun z => bm z.1), if_neg (fun z => c ⟨(Option.some.inj z.1).symm, z.2⟩)]) (fun x l h => ((w1 x l h).fr b5 f0).fr f3 fu0) (fun x l h => h.fr f3 fu0)
      refine hQ o' _ (N1 ++ m :: N2) kk vv sub' m ?_ a1 ?_ (fun x hx => ?_) fG
      · rw [hE]
        have := b1.fr f3 husu (fun z => huw z.symm) fu0
        simpa using this
      · rw [a2, hm1, b3, hE]
      · rcases List.mem_append.mp hx with z | z
        · exact fN x z
        · rcases List.mem_cons.mp z with z | z
          · rw [z]
            exact fm
          · exact fB.fresh (b4 x z)
  -- the middle node is made
  have Mk : ∀ (oL : gO) (GL : hG) (N1 : List Nat) (k1 : Nat → Wd) (v1 : Nat → Option Nat) (sub1 : Nat → List Nat) (r1 : Option Nat), pIM oL GL us ts (E1 ++ Ea1) (e :: (Ea2 ++ E2)) it w ci → gFr (gOnly w) o G oL GL → pTr oL GL u N1 k1 v1 sub1 r1 → N1.map (fun n => (k1 n, v1 n)) = Ea1 → (∀ x, x ∈ N1 → hC G x = none) → wJ1_buildFromSorted_2_L4_b45 Q t lev (nI (lo + Ea.length - 1)) red (some it) none dv (nI (lo + Ea1.length)) r1 GL := by
    intro oL GL N1 k1 v1 sub1 r1 hIL fL h1 hm1 fN
    have N128 : ∀ G1 a, pIM oL G1 us ts (E1 ++ Ea1 ++ [e]) (Ea2 ++ E2) it w ci → gFr (gOnly w) oL GL oL G1 → pW oL G1 a e.1 → wJ1_buildFromSorted_2_L4_b128 Q t lev (nI (lo + Ea.length - 1)) red it none dv (nI (lo + Ea1.length)) r1 (some a) e.2 G1 := by
      intro G1 a hI1 f1 ha
      have fG1 := fL.tr f1
      have h11 := h1.fr f1 fw f0
      unfold wJ1_buildFromSorted_2_L4_b128
      intro q hq
      have qN : ∀ b, b ∈ N1 → b ≠ q := fun b hb z => by
        have := (h11.1 b hb).1
        rw [z, hq] at this
        cases this
      have qG : hC G q = none := fG1.fresh hq
      refine hlet_i (s_newE (by rw [hC_nw, if_pos rfl]) ?_)
      have N154 : ∀ G2, hC G2 = hC (hnw G1 q 10 0) → hN G2 = hN (hnw G1 q 10 0) → hJ G2 = hJ (hnw G1 q 10 0) → hK G2 = hK G1 → (∀ b j, b ≠ q → hI G2 b j = hI G1 b j) → (hI G2 q 5 = 0 ∨ hI G2 q 5 = 1) → (∀ b j, hR G2 b j = if b = q then (if j = 4 then none else if j = 1 then e.2 else if j = 0 then some a else none) else hR G1 b j) → wJ1_buildFromSorted_2_L4_b154 Q t lev (nI (lo + Ea.length - 1)) red it none dv (nI (lo + Ea1.length)) r1 q G2 := by
        intro G2 x1 x2 x3 x4 x5 x6 x7
        have f2 : ∀ M, gFr M oL G1 (gU oL q u) G2 := fun M => ⟨fun b c hb => by
          have e9 : b ≠ q := fun z => by rw [z, hq] at hb; cases hb
          refine ⟨by rw [x1, hC_nw, if_neg e9]; exact hb, gU_n e9, fun _ => ⟨by rw [x2, hN_nw, if_neg e9], funext fun j => x5 b j e9, by rw [x3]; funext j; rw [hJ_nw, if_neg e9], funext fun j => by rw [x7, if_neg e9]⟩⟩, x4⟩
        have cq : hC G2 q = some (10, true) := by rw [x1, hC_nw, if_pos rfl]
        have r0 : hR G2 q 0 = some a := by rw [x7, if_pos rfl]; rfl
        have rv : hR G2 q 1 = e.2 := by rw [x7, if_pos rfl]; rfl
        have rz : ∀ j, 2 ≤ j → hR G2 q j = none := fun j hj => by
          rw [x7, if_pos rfl]
          by_cases c4 : j = 4
          · rw [if_pos c4]
          · rw [if_neg c4, if_neg (by omega), if_neg (by omega)]
        have hI2 := hI1.fr (f2 gNo) (fun z => z) (fun z => z) (fun z => z)
        have fG2 := fG1.tr (f2 (gOnly w))
        unfold wJ1_buildFromSorted_2_L4_b154
        cases hr : r1 with
        | none =>
          refine cm_none (R (gU oL q u) G2 G1 oL N1 k1 v1 sub1 r1 q a hI2 fG2 h11 hm1 (fun b hb => ?_) (fun b j hb => ?_) (fun x l h => h.fr (f2 gNo) (fun z => z)) cq gU_s r0 (ha.fr (f2 gNo) (fun z => z)) rv x6 (by rw [hr]; exact rz 2 (by decide)) (rz 3 (by decide)) (rz 4 (by decide)) (fun z => qN q z rfl) fN qG 0)
          · have := h11.1 b hb
            exact ⟨(f2 gNo).C this.1, ((f2 gNo).O this.1).trans this.2.1, funext fun j => x5 b j (qN b hb)⟩
          · rw [hr, if_neg (fun z => by cases z.1), x7, if_neg (qN b hb)]
        | some l =>
          have hlN : l ∈ N1 := (h1.2.rp hr).1
          have hlc := h11.1 l hlN
          have lq := qN l hlN
          refine cm_some ⟨cq, hlet_i ⟨by rw [hC_sR, x1, hC_nw, if_neg lq]; exact hlc.1, hlet_i ?_⟩⟩
          have f3 : gFr (gOnly u) (gU oL q u) G2 (gU oL q u) (hsR (hsR G2 q 2 (some l)) l 4 (some q)) := ((gFr.rf (M := gOnly u)).sR (Or.inr gU_s)).sR (Or.inr (((f2 gNo).O hlc.1).trans hlc.2.1))
          have fG3 : gFr (gOnly w) o G (gU oL q u) (hsR (hsR G2 q 2 (some l)) l 4 (some q)) := (fG2.sR (Or.inl qG)).sR (Or.inl (fN l hlN))
          refine R (gU oL q u) _ G1 oL N1 k1 v1 sub1 r1 q a (hI2.fr f3 husu (fun z => huw z.symm) fu0) fG3 h11 hm1 (fun b hb => ?_) (fun b j hb => ?_) (fun x l h => (h.fr (f2 gNo) (fun z => z)).fr f3 fu0) cq gU_s ?_ ((ha.fr (f2 gNo) (fun z => z)).fr f3 fu0) ?_ x6 ?_ ?_ ?_ (fun z => qN q z rfl) fN qG 0
          · have := h11.1 b hb
            exact ⟨(f2 gNo).C this.1, ((f2 gNo).O this.1).trans this.2.1, funext fun j => x5 b j (qN b hb)⟩
          · rw [hR_sR, hR_sR, x7, if_neg (qN b hb), hr]
            by_cases c : b = l ∧ j = 4
            · rw [if_pos c, if_pos ⟨by rw [c.1], c.2⟩]
            · rw [if_neg c, if_neg (fun z => qN b hb z.1), if_neg (fun z => c ⟨(Option.some.inj z.1).symm, z.2⟩)]
          · rw [hR_sR, if_neg (fun z => lq z.1.symm), hR_sR, if_neg (fun z => by have := z.2; omega)]
            exact r0
          · rw [hR_sR, if_neg (fun z => lq z.1.symm), hR_sR, if_neg (fun z => by have := z.2; omega)]
            exact rv
          · rw [hR_sR, if_neg (fun z => lq z.1.symm), hR_sR, if_pos ⟨rfl, rfl⟩, hr]
          · rw [hR_sR, if_neg (fun z => lq z.1.symm), hR_sR, if_neg (fun z => by have := z.2; omega)]
            exact rz 3 (by decide)
          · rw [hR_sR, if_neg (fun z => lq z.1.symm), hR_sR, if_neg (fun z => by have := z.2; omega)]
            exact rz 4 (by decide)
      have rr : ∀ b j, hR (hsR (hsR (hsR (hsI (hnw G1 q 10 0) q 5 1) q 0 (some a)) q 1 e.2) q 4 none) b j = if b = q then (if j = 4 then none else if j = 1 then e.2 else if j = 0 then some a else none) else hR G1 b j := by
        intro b j
        rw [hR_sR, hR_sR, hR_sR, hR_sI, hR_nw]
        by_cases c : b = q
        · rw [if_pos c, if_pos c]
          by_cases c4 : j = 4
          · rw [if_pos ⟨c, c4⟩, if_pos c4]
          · rw [if_neg (fun z => c4 z.2), if_neg c4]
            by_cases c3 : j = 1
            · rw [if_pos ⟨c, c3⟩, if_pos c3]
            · rw [if_neg (fun z => c3 z.2), if_neg c3]
              by_cases c0 : j = 0
              · rw [if_pos ⟨c, c0⟩, if_pos c0]
              · rw [if_neg (fun z => c0 z.2), if_neg c0]
        · rw [if_neg (fun z => c z.1), if_neg (fun z => c z.1), if_neg (fun z => c z.1), if_neg c, if_neg c]
      refine br_c (fun _ => ⟨by rw [hC_sR, hC_sR, hC_sR, hC_sI, hC_nw, if_pos rfl], hlet_i ?_⟩) (fun _ => ?_)
      · refine N154 _ rfl rfl rfl rfl (fun b j hb => ?_) (Or.inl ?_) (fun b j => ?_)
        · rw [hI_sI, if_neg (fun z => hb z.1), hI_sR, hI_sR, hI_sR, hI_sI, if_neg (fun z => hb z.1), hI_nw, if_neg hb]
        · rw [hI_sI, if_pos ⟨rfl, rfl⟩]
        · rw [hR_sI]
          exact rr b j
      · refine N154 _ rfl rfl rfl rfl (fun b j hb => ?_) (Or.inr ?_) rr
        · rw [hI_sR, hI_sR, hI_sR, hI_sI, if_neg (fun z => hb z.1), hI_nw, if_neg hb]
        · rw [hI_sR, hI_sR, hI_sR, hI_sI, if_pos ⟨rfl, rfl⟩]
    unfold wJ1_buildFromSorted_2_L4_b45
    refine cm_some ?_
    rcases hk with ⟨k1', k2'⟩ | ⟨k1', P, k2', k3'⟩
    · subst k1' k2'
      refine cm_none ⟨hclt hIL.ic, s_next13 hIL husw.symm hw0 fun G' n b1 b2 b3 b4 b5 => ⟨fun y z => by cases z; exact hclt b3, n, rfl, hclt b3, ?_⟩⟩
      obtain ⟨a, b6, b7⟩ := b4
      unfold wJ22_getKey
      refine ⟨hclt b3, hlet_i ⟨hclt b3, ?_⟩⟩
      unfold wJ22_getValue
      refine ⟨hclt b3, hlet_i ?_⟩
      rw [b6, b5]
      exact N128 G' a b1 b2 b7
    · subst k1' k2'
      refine cm_some ⟨hclt hIL.ic, s_next11 hIL husw.symm hw0 fun G' a b1 b2 b3 => ?_⟩
      have := N128 G' a b1 b2 b3
      rw [k3' e (by rw [hE]; simp)] at this
      exact this
  by_cases c1 : Ea1.length = 0
  · have e1 : Ea1 = [] := List.eq_nil_of_length_eq_zero c1
    refine br_t (nI_le (by omega) (by omega)) ?_
    refine Mk o G [] (fun _ => []) (fun _ => none) (fun _ => []) none ?_ gFr.rf ⟨fun n hn => (nomatch hn), TI.nil⟩ (by rw [e1]; rfl) (fun x hx => (nomatch hx))
    rw [e1]
    rw [hE, e1] at hIt
    simpa using hIt
  · refine br_f (nI_ge (by omega) (by omega)) ⟨hclt ht, ?_⟩
    rw [show (1 : Int32) = nI 1 from rfl, nI_sub (by omega)]
    refine s_bL3 _ o G u us w t ts it ci dv _ red lo E1 Ea1 (e :: (Ea2 ++ E2)) huw husw husu hw0 hu0 ht (hk.sub (fun x hx => by rw [hE]; exact List.mem_append_left _ hx)) ?_ (by omega) (by omega) (by omega) fun o' G' N kk vv sub r a1 a2 a3 a4 a5 => ?_
    · rw [hE] at hIt
      simpa using hIt
    · exact Mk o' G' N kk vv sub (some r) a1 a5 a2 a3 a4
theorem s_bL5 : bSpec wJ1_buildFromSorted_2_L5 63 := by
  intro Q o G u us w t ts it ci dv lev red lo E1 Ea E2 huw husw husu hw0 hu0 ht hk hIt hn1 hn2 hlo hQ
  have f0 : ¬ gOnly w (0, 0) := fun z => hw0 z.symm
  have fw : ¬ gOnly w u := fun z => huw z
  have fu0 : ¬ gOnly u (0, 0) := fun z => hu0 z.symm
  obtain ⟨Ea1, e, Ea2, hE, hl1⟩ := splitAt Ea ((Ea.length - 1) / 2) (by omega)
  have hle : Ea.length = Ea1.length + (Ea2.length + 1) := by rw [hE, List.length_append, List.length_cons]
  unfold wJ1_buildFromSorted_2_L5
  refine br_t (nI_le (by omega) (by omega)) (hlet_i ?_)
  rw [s_mid hn1 hlo, ← hl1]
  -- from the middle node on
  have R : ∀ (oB : gO) (GB GL : hG) (oL : gO) (N1 : List Nat) (k1 : Nat → Wd) (v1 : Nat → Option Nat) (sub1 : Nat → List Nat) (r1 : Option Nat) (m a : Nat), pIM oB GB us ts (E1 ++ Ea1 ++ [e]) (Ea2 ++ E2) it w ci → gFr (gOnly w) o G oB GB → pTr oL GL u N1 k1 v1 sub1 r1 → N1.map (fun n => (k1 n, v1 n)) = Ea1 → (∀ b, b ∈ N1 → hC GB b = some (10, true) ∧ oB b = u ∧ hI GB b = hI GL b) → (∀ b j, b ∈ N1 → hR GB b j = if r1 = some b ∧ j = 4 then some m else hR GL b j) → (∀ x l, pW oL GL x l → pW oB GB x l) → hC GB m = some (10, true) → oB m = u → hR GB m 0 = some a → pW oB GB a e.1 → hR GB m 1 = e.2 → (hI GB m 5 = 0 ∨ hI GB m 5 = 1) → hR GB m 2 = r1 → hR GB m 3 = none → hR GB m 4 = none → m ∉ N1 → (∀ x, x ∈ N1 → hC G x = none) → hC G m = none → ∀ (lo' : Nat), wJ1_buildFromSorted_2_L5_b173 Q t lev (nI (lo + Ea.length - 1)) red it none dv (nI (lo + Ea1.length)) m GB := by
    intro oB GB GL oL N1 k1 v1 sub1 r1 m a hIB fB h1 hm1 c1 g1 w1 mc mo mk mw mv m5 m2 m3 m4 mN fN fm _
    have htB := fB.C ht
    unfold wJ1_buildFromSorted_2_L5_b173 wJ1_buildFromSorted_2_L5_b215
    have hb : ∀ b, b ∈ N1 → b ≠ m := fun b hb z => mN (by rw [← z]; exact hb)
    by_cases c2 : Ea2.length = 0
    · have e2 : Ea2 = [] := List.eq_nil_of_length_eq_zero c2
      refine br_t (nI_le (by omega) (by omega)) ?_
      obtain ⟨kk, vv, sub', a1, a2⟩ := s_bEnd (o' := oB) (G' := GB) (GD := GB) (oD := oB) (N2 := []) (k2 := k1) (v2 := v1) (sub2 := sub1) (r2 := none) (m := m) (a := a) (e := e) h1 ⟨fun n hn => (nomatch hn), TI.nil⟩ mN (by simp) (fun x hx => by simp) rfl mc mo mk mw mv m5 m2 m3 m4 c1 g1 (fun b hb => (nomatch hb)) (fun b j hb => (nomatch hb)) w1 (fun x l h => h)
      refine hQ oB GB (N1 ++ m :: []) kk vv sub' m ?_ a1 ?_ (fun x hx => ?_) fB
      · rw [hE, e2]
        rw [e2] at hIB
        simpa using hIB
      · rw [a2, hm1, hE, e2]
        rfl
      · rcases List.mem_append.mp hx with z | z
        · exact fN x z
        · rw [List.mem_singleton.mp z]
          exact fm
    · refine br_f (nI_ge (by omega) (by omega)) ⟨hclt htB, ?_⟩
      rw [show nI (lo + Ea1.length) + (1 : Int32) = nI (lo + Ea1.length + 1) from nI_1 _, show lo + Ea.length - 1 = (lo + Ea1.length + 1) + Ea2.length - 1 by omega]
      refine s_bL4 _ oB GB u us w t ts it ci dv _ red (lo + Ea1.length + 1) (E1 ++ Ea1 ++ [e]) Ea2 E2 huw husw husu hw0 hu0 htB (hk.sub (fun x hx => by rw [hE]; exact List.mem_append_right _ (List.mem_cons_of_mem _ hx))) hIB (by omega) (by omega) (by omega) fun o' G' N2 k2 v2 sub2 r2 b1 b2 b3 b4 b5 => ?_
      have m' := b5.C mc
      have r2N : r2 ∈ N2 := (b2.2.rp rfl).1
      have r2c := (b2.1 r2 r2N).1
      have sN : ∀ b, b ∈ N1 → hSm GB G' b := fun b hb => b5.S (c1 b hb).1 (c1 b hb).2.1 fw
      have sm := b5.S mc mo fw
      have nN2 : ∀ b, hC GB b = some (10, true) → b ∉ N2 := fun b hb z => by
        have := b4 b z
        rw [hb] at this
        cases this
      have mr2 : m ≠ r2 := fun z => nN2 m mc (by rw [z]; exact r2N)
      refine ⟨m', hlet_i ⟨r2, rfl, by rw [hC_sR]; exact r2c, hlet_i ?_⟩⟩
      have f3 : gFr (gOnly u) o' G' o' (hsR (hsR G' m 3 (some r2)) r2 4 (some m)) := ((gFr.rf (M := gOnly u)).sR (Or.inr ((b5.O mc).trans mo))).sR (Or.inr (b2.1 r2 r2N).2.1)
      have fG : gFr (gOnly w) o G o' (hsR (hsR G' m 3 (some r2)) r2 4 (some m)) := ((fB.tr b5).sR (Or.inl fm)).sR (Or.inl (fB.fresh (b4 r2 r2N)))
      have rr : ∀ b j, hR (hsR (hsR G' m 3 (some r2)) r2 4 (some m)) b j = if b = r2 ∧ j = 4 then some m else if b = m ∧ j = 3 then some r2 else hR G' b j := fun b j => by rw [hR_sR, hR_sR]
      have rm : ∀ j, j ≠ 3 → hR (hsR (hsR G' m 3 (some r2)) r2 4 (some m)) m j = hR GB m j := fun j hj => by
        rw [rr, if_neg (fun z => mr2 z.1), if_neg (fun z => hj z.2)]
        exact congrFun sm.2.2.2 j
      obtain ⟨kk, vv, sub', a1, a2⟩ := s_bEnd (o' := o') (G' := hsR (hsR G' m 3 (some r2)) r2 4 (some m)) (GD := G') (oD := o') (N2 := N2) (k2 := k2) (v2 := v2) (sub2 := sub2) (r2 := some r2) (m := m) (a := a) (e := e) h1 b2 mN (nN2 m mc) (fun x hx => nN2 x (c1 x hx).1) rfl m' ((b5.O mc).trans mo) ((rm 0 (by decide)).trans mk) ((mw.fr b5 f0).fr f3 fu0) ((rm 1 (by decide)).trans mv) (by rw [hI_sR, hI_sR, sm.2.1]; exact m5) ((rm 2 (by decide)).trans m2) (by rw [rr, if_neg (fun z => mr2 z.1), if_pos ⟨rfl, rfl⟩]) ((rm 4 (by decide)).trans m4) (fun b hb => ⟨b5.C (c1 b hb).1, (b5.O (c1 b hb).1).trans (c1 b hb).2.1, by rw [hI_sR, hI_sR, (sN b hb).2.1]; exact (c1 b hb).2.2⟩) (fun b j hb' => by
          rw [rr, if_neg (fun z => nN2 b (c1 b hb').1 (by rw [z.1]; exact r2N)), if_neg (fun z => hb b hb' z.1), (sN b hb').2.2.2]
          exact g1 b j hb') (fun b hb => ⟨(b2.1 b hb).1, (b2.1 b hb).2.1, rfl⟩) (fun b j hb' => by
          have bm : b ≠ m := fun z => nN2 m mc (by rw [← z]; exact hb')
          rw [rr]
          by_cases c : b = r2 ∧ j = 4
          · rw [if_pos c, if_pos ⟨by rw [c.1], c.2⟩]
          · rw [if_neg c, if_neg (fun z => bm z.1), if_neg (fun z => c ⟨(Option.some.inj z.1).symm, z.2⟩)]) (fun x l h => ((w1 x l h).fr b5 f0).fr f3 fu0) (fun x l h => h.fr f3 fu0)
      refine hQ o' _ (N1 ++ m :: N2) kk vv sub' m ?_ a1 ?_ (fun x hx => ?_) fG
      · rw [hE]
        have := b1.fr f3 husu (fun z => huw z.symm) fu0
        simpa using this
      · rw [a2, hm1, b3, hE]
      · rcases List.mem_append.mp hx with z | z
        · exact fN x z
        · rcases List.mem_cons.mp z with z | z
          · rw [z]
            exact fm
          · exact fB.fresh (b4 x z)
  -- the middle node is made
  have Mk : ∀ (oL : gO) (GL : hG) (N1 : List Nat) (k1 : Nat → Wd) (v1 : Nat → Option Nat) (sub1 : Nat → List Nat) (r1 : Option Nat), pIM oL GL us ts (E1 ++ Ea1) (e :: (Ea2 ++ E2)) it w ci → gFr (gOnly w) o G oL GL → pTr oL GL u N1 k1 v1 sub1 r1 → N1.map (fun n => (k1 n, v1 n)) = Ea1 → (∀ x, x ∈ N1 → hC G x = none) → wJ1_buildFromSorted_2_L5_b45 Q t lev (nI (lo + Ea.length - 1)) red (some it) none dv (nI (lo + Ea1.length)) r1 GL := by
    intro oL GL N1 k1 v1 sub1 r1 hIL fL h1 hm1 fN
    have N128 : ∀ G1 a, pIM oL G1 us ts (E1 ++ Ea1 ++ [e]) (Ea2 ++ E2) it w ci → gFr (gOnly w) oL GL oL G1 → pW oL G1 a e.1 → wJ1_buildFromSorted_2_L5_b128 Q t lev (nI (lo + Ea.length - 1)) red it none dv (nI (lo + Ea1.length)) r1 (some a) e.2 G1 := by
      intro G1 a hI1 f1 ha
      have fG1 := fL.tr f1
      have h11 := h1.fr f1 fw f0
      unfold wJ1_buildFromSorted_2_L5_b128
      intro q hq
      have qN : ∀ b, b ∈ N1 → b ≠ q := fun b hb z => by
        have := (h11.1 b hb).1
        rw [z, hq] at this
        cases this
      have qG : hC G q = none := fG1.fresh hq
      refine hlet_i (s_newE (by rw [hC_nw, if_pos rfl]) ?_)
      have N154 : ∀ G2, hC G2 = hC (hnw G1 q 10 0) → hN G2 = hN (hnw G1 q 10 0) → hJ G2 = hJ (hnw G1 q 10 0) → hK G2 = hK G1 → (∀ b j, b ≠ q → hI G2 b j = hI G1 b j) → (hI G2 q 5 = 0 ∨ hI G2 q 5 = 1) → (∀ b j, hR G2 b j = if b = q then (if j = 4 then none else if j = 1 then e.2 else if j = 0 then some a else none) else hR G1 b j) → wJ1_buildFromSorted_2_L5_b154 Q t lev (nI (lo + Ea.length - 1)) red it none dv (nI (lo + Ea1.length)) r1 q G2 := by
        intro G2 x1 x2 x3 x4 x5 x6 x7
        have f2 : ∀ M, gFr M oL G1 (gU oL q u) G2 := fun M => ⟨fun b c hb => by
          have e9 : b ≠ q := fun z => by rw [z, hq] at hb; cases hb
          refine ⟨by rw [x1, hC_nw, if_neg e9]; exact hb, gU_n e9, fun _ => ⟨by rw [x2, hN_nw, if_neg e9], funext fun j => x5 b j e9, by rw [x3]; funext j; rw [hJ_nw, if_neg e9], funext fun j => by rw [x7, if_neg e9]⟩⟩, x4⟩
        have cq : hC G2 q = some (10, true) := by rw [x1, hC_nw, if_pos rfl]
        have r0 : hR G2 q 0 = some a := by rw [x7, if_pos rfl]; rfl
        have rv : hR G2 q 1 = e.2 := by rw [x7, if_pos rfl]; rfl
        have rz : ∀ j, 2 ≤ j → hR G2 q j = none := fun j hj => by
          rw [x7, if_pos rfl]
          by_cases c4 : j = 4
          · rw [if_pos c4]
          · rw [if_neg c4, if_neg (by omega), if_neg (by omega)]
        have hI2 := hI1.fr (f2 gNo) (fun z => z) (fun z => z) (fun z => z)
        have fG2 := fG1.tr (f2 (gOnly w))
        unfold wJ1_buildFromSorted_2_L5_b154
        cases hr : r1 with
        | none =>
          refine cm_none (R (gU oL q u) G2 G1 oL N1 k1 v1 sub1 r1 q a hI2 fG2 h11 hm1 (fun b hb => ?_) (fun b j hb => ?_) (fun x l h => h.fr (f2 gNo) (fun z => z)) cq gU_s r0 (ha.fr (f2 gNo) (fun z => z)) rv x6 (by rw [hr]; exact rz 2 (by decide)) (rz 3 (by decide)) (rz 4 (by decide)) (fun z => qN q z rfl) fN qG 0)
          · have := h11.1 b hb
            exact ⟨(f2 gNo).C this.1, ((f2 gNo).O this.1).trans this.2.1, funext fun j => x5 b j (qN b hb)⟩
          · rw [hr, if_neg (fun z => by cases z.1), x7, if_neg (qN b hb)]
        | some l =>
          have hlN : l ∈ N1 := (h1.2.rp hr).1
          have hlc := h11.1 l hlN
          have lq := qN l hlN
          refine cm_some ⟨cq, hlet_i ⟨by rw [hC_sR, x1, hC_nw, if_neg lq]; exact hlc.1, hlet_i ?_⟩⟩
          have f3 : gFr (gOnly u) (gU oL q u) G2 (gU oL q u) (hsR (hsR G2 q 2 (some l)) l 4 (some q)) := ((gFr.rf (M := gOnly u)).sR (Or.inr gU_s)).sR (Or.inr (((f2 gNo).O hlc.1).trans hlc.2.1))
          have fG3 : gFr (gOnly w) o G (gU oL q u) (hsR (hsR G2 q 2 (some l)) l 4 (some q)) := (fG2.sR (Or.inl qG)).sR (Or.inl (fN l hlN))
          refine R (gU oL q u) _ G1 oL N1 k1 v1 sub1 r1 q a (hI2.fr f3 husu (fun z => huw z.symm) fu0) fG3 h11 hm1 (fun b hb => ?_) (fun b j hb => ?_) (fun x l h => (h.fr (f2 gNo) (fun z => z)).fr f3 fu0) cq gU_s ?_ ((ha.fr (f2 gNo) (fun z => z)).fr f3 fu0) ?_ x6 ?_ ?_ ?_ (fun z => qN q z rfl) fN qG 0
          · have := h11.1 b hb
            exact ⟨(f2 gNo).C this.1, ((f2 gNo).O this.1).trans this.2.1, funext fun j => x5 b j (qN b hb)⟩
          · rw [hR_sR, hR_sR, x7, if_neg (qN b hb), hr]
            by_cases c : b = l ∧ j = 4
            · rw [if_pos c, if_pos ⟨by rw [c.1], c.2⟩]
            · rw [if_neg c, if_neg (fun z => qN b hb z.1), if_neg (fun z => c ⟨(Option.some.inj z.1).symm, z.2⟩)]
          · rw [hR_sR, if_neg (fun z => lq z.1.symm), hR_sR, if_neg (fun z => by have := z.2; omega)]
            exact r0
          · rw [hR_sR, if_neg (fun z => lq z.1.symm), hR_sR, if_neg (fun z => by have := z.2; omega)]
            exact rv
          · rw [hR_sR, if_neg (fun z => lq z.1.symm), hR_sR, if_pos ⟨rfl, rfl⟩, hr]
          · rw [hR_sR, if_neg (fun z => lq z.1.symm), hR_sR, if_neg (fun z => by have := z.2; omega)]
            exact rz 3 (by decide)
          · rw [hR_sR, if_neg (fun z => lq z.1.symm), hR_sR, if_neg (fun z => by have := z.2; omega)]
            exact rz 4 (by decide)
      have rr : ∀ b j, hR (hsR (hsR (hsR (hsI (hnw G1 q 10 0) q 5 1) q 0 (some a)) q 1 e.2) q 4 none) b j = if b = q then (if j = 4 then none else if j = 1 then e.2 else if j = 0 then some a else none) else hR G1 b j := by
        intro b j
        rw [hR_sR, hR_sR, hR_sR, hR_sI, hR_nw]
        by_cases c : b = q
        · rw [if_pos c, if_pos c]
          by_cases c4 : j = 4
          · rw [if_pos ⟨c, c4⟩, if_pos c4]
          · rw [if_neg (fun z => c4 z.2), if_neg c4]
            by_cases c3 : j = 1
            · rw [if_pos ⟨c, c3⟩, if_pos c3]
            · rw [if_neg (fun z => c3 z.2), if_neg c3]
              by_cases c0 : j = 0
              · rw [if_pos ⟨c, c0⟩, if_pos c0]
              · rw [if_neg (fun z => c0 z.2), if_neg c0]
        · rw [if_neg (fun z => c z.1), if_neg (fun z => c z.1), if_neg (fun z => c z.1), if_neg c, if_neg c]
      refine br_c (fun _ => ⟨by rw [hC_sR, hC_sR, hC_sR, hC_sI, hC_nw, if_pos rfl], hlet_i ?_⟩) (fun _ => ?_)
      · refine N154 _ rfl rfl rfl rfl (fun b j hb => ?_) (Or.inl ?_) (fun b j => ?_)
        · rw [hI_sI, if_neg (fun z => hb z.1), hI_sR, hI_sR, hI_sR, hI_sI, if_neg (fun z => hb z.1), hI_nw, if_neg hb]
        · rw [hI_sI, if_pos ⟨rfl, rfl⟩]
        · rw [hR_sI]
          exact rr b j
      · refine N154 _ rfl rfl rfl rfl (fun b j hb => ?_) (Or.inr ?_) rr
        · rw [hI_sR, hI_sR, hI_sR, hI_sI, if_neg (fun z => hb z.1), hI_nw, if_neg hb]
        · rw [hI_sR, hI_sR, hI_sR, hI_sI, if_pos ⟨rfl, rfl⟩]
    unfold wJ1_buildFromSorted_2_L5_b45
    refine cm_some ?_
    rcases hk with ⟨k1', k2'⟩ | ⟨k1', P, k2', k3'⟩
    · subst k1' k2'
      refine cm_none ⟨hclt hIL.ic, s_next13 hIL husw.symm hw0 fun G' n b1 b2 b3 b4 b5 => ⟨fun y z => by cases z; exact hclt b3, n, rfl, hclt b3, ?_⟩⟩
      obtain ⟨a, b6, b7⟩ := b4
      unfold wJ22_getKey
      refine ⟨hclt b3, hlet_i ⟨hclt b3, ?_⟩⟩
      unfold wJ22_getValue
      refine ⟨hclt b3, hlet_i ?_⟩
      rw [b6, b5]
      exact N128 G' a b1 b2 b7
    · subst k1' k2'
      refine cm_some ⟨hclt hIL.ic, s_next11 hIL husw.symm hw0 fun G' a b1 b2 b3 => ?_⟩
      have := N128 G' a b1 b2 b3
      rw [k3' e (by rw [hE]; simp)] at this
      exact this
  by_cases c1 : Ea1.length = 0
  · have e1 : Ea1 = [] := List.eq_nil_of_length_eq_zero c1
    refine br_t (nI_le (by omega) (by omega)) ?_
    refine Mk o G [] (fun _ => []) (fun _ => none) (fun _ => []) none ?_ gFr.rf ⟨fun n hn => (nomatch hn), TI.nil⟩ (by rw [e1]; rfl) (fun x hx => (nomatch hx))
    rw [e1]
    rw [hE, e1] at hIt
    simpa using hIt
  · refine br_f (nI_ge (by omega) (by omega)) ⟨hclt ht, ?_⟩
    rw [show (1 : Int32) = nI 1 from rfl, nI_sub (by omega)]
    refine s_bL4 _ o G u us w t ts it ci dv _ red lo E1 Ea1 (e :: (Ea2 ++ E2)) huw husw husu hw0 hu0 ht (hk.sub (fun x hx => by rw [hE]; exact List.mem_append_left _ hx)) ?_ (by omega) (by omega) (by omega) fun o' G' N kk vv sub r a1 a2 a3 a4 a5 => ?_
    · rw [hE] at hIt
      simpa using hIt
    · exact Mk o' G' N kk vv sub (some r) a1 a5 a2 a3 a4
