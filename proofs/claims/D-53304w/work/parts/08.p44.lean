/-! ===== plain law 44: undo, type, clearCommands, the new object ===== -/
set_option maxRecDepth 100000
section P44
variable {o : gO} {G : hG} {xa c : Nat} {st : Ste}
def xUndo (st : Ste) : Except Bool (Ste × Int32) := match st.2.1[st.2.1.length - 1]? with
  | none => .error true
  | some B => .ok ((B, st.2.1.eraseIdx (st.2.1.length - 1), st.2.2), nI (st.2.1.length - 1))
theorem s_xundo {Q : hG → Int32 → Prop} {X : Bool → hG → Prop} (h : pX o G xa c st) (hF : fin o G xa c st (xUndo st) Q X) : wX1_undo Q X xa G := by
  have hX := h
  obtain ⟨a, sl, ta, b, ids, L, h⟩ := h
  obtain ⟨⟨a1, a2, a3, a4, a5, a6⟩, ⟨b1, b2, b3, b4, b5⟩, ⟨c1, c2, c3, c4⟩, d, ⟨e1, e2⟩, f, g⟩ := h
  have sc : hC G sl = some (18, true) := by
    obtain ⟨r, b1⟩ := b1
    exact b1.1
  unfold wX1_undo
  refine ⟨hclt a1, hlet_i ⟨sl, a4, hclt sc, s_alsize b1 ?_⟩⟩
  rw [b2]
  unfold wX1_undo_b15
  refine br_c (fun z => s_rqS (fun _ => hF.er ?_ hX) (fun y => absurd rfl y)) (fun z => s_rqS (fun y => absurd y (by decide)) fun _ => ?_)
  · have z0 : st.2.1.length = 0 := by
      have := (nI_leI (b := 0) (by omega) (by decide)).mp z
      omega
    unfold xUndo
    rw [List.getElem?_eq_none (by omega)]
  · have hpos : 0 < st.2.1.length := by
      apply Nat.pos_of_ne_zero
      intro y
      exact z (by rw [y]; decide)
    have hlt : st.2.1.length - 1 < st.2.1.length := by omega
    refine ⟨hclt a1, hlet_i ⟨hclt a1, hlet_i ⟨sl, a4, hclt sc, s_alsize b1 ⟨sl, a4, hclt sc, ?_⟩⟩⟩⟩
    rw [b2, show (1 : Int32) = nI 1 from rfl, nI_sub (by omega)]
    have hL : st.2.1.length - 1 < L.length := by omega
    have hi : st.2.1.length - 1 < ids.length := by omega
    refine s_alremove b1 hL fun G' k1 k2 => ?_
    obtain ⟨x4, x5⟩ := b5 _ _ _ _ (List.getElem?_eq_getElem hi) (List.getElem?_eq_getElem hL) (List.getElem?_eq_getElem hlt)
    have hmi : ids[st.2.1.length - 1] ∈ ids := List.getElem_mem hi
    have n0 : ¬ gOnly (1, 1) (0, 0) := fun z => by cases z
    have nb : ∀ k i j, 4 ≤ k → ¬ gOnly (1, i) (k, j) := fun k i j hk z => by have : k = 1 := congrArg Prod.fst z; omega
    have x6 := x4.fr k2 (fun i => nb _ 1 i (f.2 _ (List.mem_cons_of_mem _ hmi))) n0
    have yc : hC G' L[st.2.1.length - 1] = some (2, true) := by
      obtain ⟨x, x6⟩ := x6
      exact x6.1.1
    have s := k2.S a1 a2 (fun z => by cases z)
    have s2 := k2.S c1 c2 (fun z => by cases z)
    have f1 : gFr xM o G o (hsR G' xa 0 (some L[st.2.1.length - 1])) := (k2.mono fun v z => by rw [show v = (1, 1) from z]; exact xM_1).sR (Or.inr (by rw [a2]; exact xM_1))
    have fO : gFr (gOnly (1, 0)) o G' o (hsR G' xa 0 (some L[st.2.1.length - 1])) := gFr.rf.sR (Or.inr a2)
    have n0' : ¬ gOnly (1, 0) (0, 0) := fun z => by cases z
    have er : ∀ {α : Type} (K : List α) (n k : Nat) (z : α), (K.eraseIdx n)[k]? = some z → K.length = n + 1 → K[k]? = some z := fun K n k z hz hn => by
      rw [List.getElem?_eraseIdx] at hz
      split at hz
      · exact hz
      · rw [List.getElem?_eq_none (by omega)] at hz
        cases hz
    refine ⟨fun y ey => (by cases ey; exact hclt yc), k2.C a1, hlet_i ⟨hclt (k2.C a1), hlet_i ⟨sl, ?_, hclt (k2.C sc), ?_⟩⟩⟩
    · rw [hR_sR, if_neg (fun z => by cases z.2)]
      exact s.R a4
    · have q1 : pAL o (hsR G' xa 0 (some L[st.2.1.length - 1])) (1, 1) sl (L.eraseIdx (st.2.1.length - 1)) := k1.fr fO (fun z => by cases z) n0'
      refine s_alsize q1 ?_
      rw [List.length_eraseIdx_of_lt hL, b2]
      have el := List.length_eraseIdx_of_lt hlt
      have eL := List.length_eraseIdx_of_lt hL
      have ei := List.length_eraseIdx_of_lt hi
      refine hF.ok (st' := (st.2.1[st.2.1.length - 1], st.2.1.eraseIdx (st.2.1.length - 1), st.2.2)) ?_ f1 ⟨L[st.2.1.length - 1], sl, ta, ids[st.2.1.length - 1], ids.eraseIdx (st.2.1.length - 1), L.eraseIdx (st.2.1.length - 1), ⟨k2.C a1, a2, by rw [hR_sR, if_pos ⟨rfl, rfl⟩], ?_, ?_, s.I a6⟩, ⟨q1, ?_, ?_, ?_, ?_⟩, ⟨k2.C c1, c2, s2.N c3, fun k hk => s2.I (c4 k hk)⟩, d, ⟨x6.fr fO (fun i => nb _ 0 i (f.2 _ (List.mem_cons_of_mem _ hmi))) n0', x5⟩, ⟨?_, ?_⟩, (g.fr k2 n0).fr fO n0'⟩
      · unfold xUndo
        rw [List.getElem?_eq_getElem hlt]
      · rw [hR_sR, if_neg (fun z => by cases z.2)]
        exact s.R a4
      · rw [hR_sR, if_neg (fun z => by cases z.2)]
        exact s.R a5
      · show _ = (st.2.1.eraseIdx (st.2.1.length - 1)).length
        omega
      · show _ = (st.2.1.eraseIdx (st.2.1.length - 1)).length
        omega
      · show (st.2.1.eraseIdx (st.2.1.length - 1)).length ≤ 4
        omega
      · intro k bb aa BB y1 y2 y3
        have y3' : (st.2.1.eraseIdx (st.2.1.length - 1))[k]? = some BB := y3
        obtain ⟨x7, x8⟩ := b5 k bb aa BB (er _ _ _ _ y1 (by omega)) (er _ _ _ _ y2 (by omega)) (er _ _ _ _ y3' (by omega))
        have hm := f.2 bb (List.mem_cons_of_mem _ (List.mem_of_getElem? (er _ _ _ _ y1 (by omega))))
        exact ⟨(x7.fr k2 (fun i => nb bb 1 i hm) n0).fr fO (fun i => nb bb 0 i hm) n0', x8⟩
      · have fn := (List.nodup_cons.mp f.1).2
        refine List.nodup_cons.mpr ⟨fun z => ?_, fn.sublist (List.eraseIdx_sublist ..)⟩
        obtain ⟨k, hk⟩ := List.mem_iff_getElem?.mp z
        have hk' := er _ _ _ _ hk (by omega)
        have hkl : k < st.2.1.length - 1 := by
          have := (List.getElem?_eq_some_iff.mp hk).1
          omega
        obtain ⟨k9, k10⟩ := List.getElem?_eq_some_iff.mp hk'
        exact List.pairwise_iff_getElem.mp fn k (st.2.1.length - 1) k9 hi hkl k10
      · intro i hi9
        rcases List.mem_cons.mp hi9 with hi9 | hi9
        · rw [hi9]
          exact f.2 _ (List.mem_cons_of_mem _ hmi)
        · exact f.2 i (List.mem_cons_of_mem _ (List.mem_of_mem_eraseIdx hi9))
def xType (st : Ste) (v : Int32) : Except Bool (Ste × Int32) := match rgN 0 127 v with
  | none => .error false
  | some k => if 150 ≤ st.2.2.length then .error true else .ok ((st.1, st.2.1, st.2.2 ++ [k]), nI (st.2.2.length + 1))
theorem i8_id : ∀ k, k < 128 → (nI k).toInt8.toInt32 = nI k := by decide
theorem s_xtype {Q : hG → Int32 → Prop} {X : Bool → hG → Prop} {v : Int32} (h : pX o G xa c st) (hF : fin o G xa c st (xType st v) Q X) : wX1_type Q X xa v G := by
  have hX := h
  obtain ⟨a, sl, ta, b, ids, L, h⟩ := h
  obtain ⟨⟨a1, a2, a3, a4, a5, a6⟩, ⟨b1, b2, b3, b4, b5⟩, ⟨c1, c2, c3, c4⟩, ⟨d1, d2⟩, ⟨e1, e2⟩, f, g⟩ := h
  unfold wX1_type
  refine s_rng (lo := 0) (hi := 127) rfl rfl (by decide) (by decide) (fun k k0 k1 k2 => s_rq (fun z => absurd z (by decide)) fun _ => ⟨hclt a1, ?_⟩) (fun z => s_rq (fun _ => hF.er ?_ hX) (fun y => absurd rfl y))
  · rw [a6]
    have er : rgN 0 127 v = some k := (rgN_some (by decide)).mpr ⟨k0, k1, k2⟩
    unfold wX1_type_b29
    refine br_c (fun z => s_rqS (fun _ => hF.er ?_ hX) (fun y => absurd rfl y)) (fun z => s_rqS (fun y => absurd y (by decide)) fun _ => ?_)
    · have := (nI_leI (a := 150) (by omega) (by omega)).mp z
      unfold xType
      rw [er]
      exact if_pos this
    · have hl : st.2.2.length < 150 := Nat.not_le.mp fun y => z ((nI_leI (a := 150) (by omega) (by omega)).mpr y)
      rw [a6, k2]
      refine ⟨hclt a1, hlet_i ⟨hclt a1, ta, a5, c1, vp_in_nI (by rw [c3]; exact hl) (by rw [c3]; decide), ?_⟩⟩
      rw [nI_clamp (by omega), i8_id k (by omega), i8_id k (by omega)]
      refine hlet_i ⟨hclt a1, a1, hlet_i ⟨hclt a1, ?_⟩⟩
      have hxt : xa ≠ ta := fun z => by rw [← z, a1] at c1; cases c1
      have e6 : hI (hsI G ta st.2.2.length (nI k)) xa 3 = nI st.2.2.length := by
        rw [hI_sI, if_neg (fun z => hxt z.1)]
        exact a6
      rw [e6, show nI st.2.2.length + (1 : Int32) = nI (st.2.2.length + 1) from nI_1 _, hI_sI, if_pos ⟨rfl, rfl⟩]
      have f1 : gFr (fun v => v = (1, 0) ∨ v = (1, 2)) o G o (hsI (hsI G ta st.2.2.length (nI k)) xa 3 (nI (st.2.2.length + 1))) := (gFr.rf.sI (Or.inr (Or.inr c2))).sI (Or.inr (Or.inl a2))
      have fx : gFr xM o G o (hsI (hsI G ta st.2.2.length (nI k)) xa 3 (nI (st.2.2.length + 1))) := f1.mono fun v z => by
        rcases z with z | z <;> (rw [z]; exact xM_1)
      have n0 : ¬ (((0, 0) : Nat × Nat) = (1, 0) ∨ ((0, 0) : Nat × Nat) = (1, 2)) := by decide
      have nb : ∀ k i, 4 ≤ k → ¬ (((k, i) : Nat × Nat) = (1, 0) ∨ ((k, i) : Nat × Nat) = (1, 2)) := fun k i hk z => by
        rcases z with z | z
        · have : k = 1 := congrArg Prod.fst z
          omega
        · have : k = 1 := congrArg Prod.fst z
          omega
      refine hF.ok (st' := (st.1, st.2.1, st.2.2 ++ [k])) ?_ fx ⟨a, sl, ta, b, ids, L, ⟨a1, a2, a3, a4, a5, ?_⟩, ⟨b1.fr f1 (by decide) n0, b2, b3, b4, fun k b' a' B' x1 x2 x3 => ?_⟩, ⟨c1, c2, c3, fun j hj => ?_⟩, ⟨?_, fun t ht => ?_⟩, ⟨e1.fr f1 (fun i => nb b i (f.2 b (List.mem_cons_self ..))) n0, e2⟩, f, g.fr f1 n0⟩
      · unfold xType
        rw [er]
        exact if_neg (by omega)
      · rw [hI_sI, if_pos ⟨rfl, rfl⟩]
        show _ = nI (st.2.2 ++ [k]).length
        rw [List.length_append]
        rfl
      · obtain ⟨x4, x5⟩ := b5 k b' a' B' x1 x2 x3
        exact ⟨x4.fr f1 (fun i => nb b' i (f.2 b' (List.mem_cons_of_mem _ (List.mem_of_getElem? x1)))) n0, x5⟩
      · have hj' : j < (st.2.2 ++ [k]).length := hj
        show _ = nI ((st.2.2 ++ [k]).getD j 0)
        rw [List.length_append, List.length_singleton] at hj'
        rw [hI_sI, if_neg (fun z => hxt z.1.symm), hI_sI, List.getD_eq_getElem?_getD]
        by_cases ej : j = st.2.2.length
        · rw [if_pos ⟨rfl, ej⟩, ej, List.getElem?_append_right (Nat.le_refl _), Nat.sub_self]
          rfl
        · rw [if_neg (fun z => ej z.2), List.getElem?_append_left (by omega), ← List.getD_eq_getElem?_getD]
          exact c4 j (by omega)
      · show (st.2.2 ++ [k]).length ≤ 150
        rw [List.length_append, List.length_singleton]
        omega
      · rcases List.mem_append.mp ht with ht | ht
        · exact d2 t ht
        · rw [List.mem_singleton.mp ht]
          omega
  · unfold xType
    cases e : rgN 0 127 v with
    | none => rfl
    | some k => exact absurd ⟨k, (rgN_some (by decide)).mp e⟩ z
theorem s_xclear {Q : hG → Int32 → Prop} (h : pX o G xa c st) (hQ : ∀ o' G', pX o' G' xa c (st.1, st.2.1, []) → gFr xM o G o' G' → Q G' (nI st.2.2.length)) : wX1_clearCommands Q xa G := by
  obtain ⟨a, sl, ta, b, ids, L, h⟩ := h
  obtain ⟨⟨a1, a2, a3, a4, a5, a6⟩, ⟨b1, b2, b3, b4, b5⟩, ⟨c1, c2, c3, c4⟩, ⟨d1, d2⟩, ⟨e1, e2⟩, f, g⟩ := h
  unfold wX1_clearCommands
  refine ⟨hclt a1, a1, hlet_i ?_⟩
  rw [a6]
  have f1 : gFr (gOnly (1, 0)) o G o (hsI G xa 3 0) := gFr.rf.sI (Or.inr a2)
  have n0 : ¬ gOnly (1, 0) (0, 0) := fun z => by cases z
  have nb : ∀ k i j, 4 ≤ k → ¬ gOnly (1, i) (k, j) := fun k i j hk z => by have : k = 1 := congrArg Prod.fst z; omega
  refine hQ o _ ⟨a, sl, ta, b, ids, L, ⟨a1, a2, a3, a4, a5, by rw [hI_sI, if_pos ⟨rfl, rfl⟩]; rfl⟩, ⟨b1.fr f1 (fun z => by cases z) n0, b2, b3, b4, fun k b' a' B' x1 x2 x3 => ?_⟩, ⟨c1, c2, c3, fun j hj => absurd hj (Nat.not_lt_zero _)⟩, ⟨Nat.zero_le _, fun t ht => (nomatch ht)⟩, ⟨e1.fr f1 (fun i => nb b 0 i (f.2 b (List.mem_cons_self ..))) n0, e2⟩, f, g.fr f1 n0⟩ (f1.mono fun v z => by rw [show v = (1, 0) from z]; exact xM_1)
  obtain ⟨x4, x5⟩ := b5 k b' a' B' x1 x2 x3
  exact ⟨x4.fr f1 (fun i => nb b' 0 i (f.2 b' (List.mem_cons_of_mem _ (List.mem_of_getElem? x1)))) n0, x5⟩
def se0 : Nat → Int32 := fun k => if k = 0 then 4 else if k = 1 then 2 else 3
def B0 : Bk := ([], [], [], [], [], [], fun _ => 0, se0)
def st0 : Ste := (B0, [], [])
theorem gB_0 : gB 0 B0 := ⟨Nat.zero_le _, fun e he => (nomatch he), Nat.zero_le _, fun e he => (nomatch he), fun e he => (nomatch he), fun e he => (nomatch he), ⟨4, by decide, rfl⟩, ⟨2, by decide, by decide, rfl⟩, ⟨3, by decide, by decide, rfl⟩, fun k _ => ⟨0, by decide, rfl⟩⟩
theorem pK0.kt {u : Nat × Nat} {k most : Nat} (h : pK0 o G u k most) (hm : most ≤ 24) : pKt o G u k most [] := by
  obtain ⟨h1, h2, h3, bl, h4, h5⟩ := h
  exact ⟨bl, [], h1, h2, h4, h3, ⟨_, h5⟩, ⟨rfl, fun k y e z => (by cases z)⟩, hm, Nat.zero_le _⟩
theorem pB0.br {b a : Nat} {x : Nat → Nat} {sk se : Nat → Int32} (h : pB0 o G b a x sk se) : pBr o G b a x ([], [], [], [], [], [], sk, se) := by
  obtain ⟨h1, h2, h3, h4, h5, h6, h7, h8, h9⟩ := h
  exact ⟨h1, ⟨[], h2, trivial⟩, h3, h4.kt (by decide), h5.kt (by decide), h6.kt (by decide), h7.kt (by decide), h8, h9⟩
theorem s_xinit {Q : hG → Prop} (hc : hC G xa = some (1, true)) (ho : o xa = (1, 0)) (h3 : hI G xa 3 = 0) (hk : kC o G) (hQ : ∀ o' G', pX o' G' xa 0 st0 → gFr xM o G o' G' → Q G') : wX1_init Q xa G := by
  unfold wX1_init
  intro q1 hq1
  refine hlet_e fun G2 e2 => ?_
  have f2 : ∀ M, gFr M o G (gU o q1 (4, 8)) G2 := fun M => by rw [e2]; exact gFr.rf.nw _ hq1
  have c1 : hC G2 q1 = some (2, true) := by rw [e2, hC_nw, if_pos rfl]
  intro q6 hq6
  refine hlet_e fun G7 e7 => ?_
  have g7 : ∀ M, gFr M (gU o q1 (4, 8)) G2 (gU (gU o q1 (4, 8)) q6 (4, 6)) G7 := fun M => by rw [e7]; exact gFr.rf.nw _ hq6
  have c6 : hC G7 q6 = some (100, true) := by rw [e7, hC_nw, if_pos rfl]
  have n6 : hN G7 q6 = 26 := by rw [e7, hN_nw, if_pos rfl]
  have i6 : ∀ k, hI G7 q6 k = 0 := fun k => by rw [e7, hI_nw, if_pos rfl]
  intro q11 hq11
  refine hlet_e fun G12 e12 => ?_
  have g12 : ∀ M, gFr M (gU (gU o q1 (4, 8)) q6 (4, 6)) G7 (gU (gU (gU o q1 (4, 8)) q6 (4, 6)) q11 (4, 7)) G12 := fun M => by rw [e12]; exact gFr.rf.nw _ hq11
  have c11 : hC G12 q11 = some (100, true) := by rw [e12, hC_nw, if_pos rfl]
  have n11 : hN G12 q11 = 3 := by rw [e12, hN_nw, if_pos rfl]
  obtain ⟨o3, ho3⟩ : ∃ o3, o3 = gU (gU (gU o q1 (4, 8)) q6 (4, 6)) q11 (4, 7) := ⟨_, rfl⟩
  have g12' : ∀ M, gFr M o G o3 G12 := fun M => by rw [ho3]; exact ((f2 M).tr (g7 M)).tr (g12 M)
  have q11G : hC G q11 = none := ((f2 gNo).tr (g7 gNo)).fresh hq11
  refine ⟨c11, by rw [n11]; exact vp_in_nI (n := 0) (by decide) (by decide), hlet_i ⟨c11, by rw [hN_sI, n11]; exact vp_in_nI (n := 1) (by decide) (by decide), hlet_i ⟨c11, by rw [hN_sI, hN_sI, n11]; exact vp_in_nI (n := 2) (by decide) (by decide), hlet_e fun G28 e28 => ?_⟩⟩⟩
  rw [show Int32.toNatClampNeg (0 : Int32) = 0 from rfl, show Int32.toNatClampNeg (1 : Int32) = 1 from rfl, show Int32.toNatClampNeg (2 : Int32) = 2 from rfl] at e28
  have f28 : ∀ M, gFr M o G o3 G28 := fun M => by
    rw [e28]
    exact (((g12' M).sI (Or.inl q11G)).sI (Or.inl q11G)).sI (Or.inl q11G)
  have o1 : o3 q1 = (4, 8) := by
    rw [ho3]
    have : gFr gNo (gU o q1 (4, 8)) G2 (gU (gU (gU o q1 (4, 8)) q6 (4, 6)) q11 (4, 7)) G12 := (g7 _).tr (g12 _)
    rw [this.O c1, gU_s]
  have o6 : o3 q6 = (4, 6) := by
    rw [ho3, (g12 gNo).O c6, gU_s]
  have o11 : o3 q11 = (4, 7) := by rw [ho3, gU_s]
  have qne : q6 ≠ q11 := fun z => by
    unfold hfr at hq11
    rw [← z, c6] at hq11
    cases hq11
  have s6 := (g12 gNo).S c6 gU_s (fun z => z)
  have hh1 : hC G28 q1 = some (2, true) := by
    rw [e28]
    exact ((g7 gNo).tr (g12 gNo)).C c1
  refine s_Binit (o0 := o) (G0 := G) (o := o3) (b := 4) (sk := fun _ => 0) (se := se0) (by decide) (hk.1.fr (f28 gNo) (fun z => z)) f28 hq1 hh1 o1 ⟨?_, o6, ?_, fun k _ => ?_⟩ ⟨?_, o11, ?_, fun k hk3 => ?_⟩ fun o4 G4 x g1 g2 => ?_
  · rw [e28]
    exact (g12 gNo).C c6
  · rw [e28]
    show hN G12 q6 = 26
    rw [s6.1]
    exact n6
  · rw [e28, hI_sI, if_neg (fun z => qne z.1), hI_sI, if_neg (fun z => qne z.1), hI_sI, if_neg (fun z => qne z.1), s6.2.1]
    exact i6 k
  · rw [e28]
    exact c11
  · rw [e28]
    exact n11
  · rw [e28]
    unfold se0
    rcases (show k = 0 ∨ k = 1 ∨ k = 2 by omega) with e | e | e <;> subst e
    · rw [hI_sI, if_neg (fun z => by cases z.2), hI_sI, if_neg (fun z => by cases z.2), hI_sI, if_pos ⟨rfl, rfl⟩, if_pos rfl]
    · rw [hI_sI, if_neg (fun z => by have := z.2; omega), hI_sI, if_pos ⟨rfl, rfl⟩, if_neg (by decide), if_pos rfl]
    · rw [hI_sI, if_pos ⟨rfl, rfl⟩, if_neg (by decide), if_neg (by decide)]
  · have n0 : ¬ gOnly (1, 0) (0, 0) := fun z => by cases z
    have nb : ∀ i, ¬ gOnly (1, 0) (4, i) := fun i z => by have : 4 = 1 := congrArg Prod.fst z; omega
    have s0 := (g2 gNo).S hc ho (fun z => z)
    have oa := (g2 gNo).O hc
    have p1 : gFr (gOnly (1, 0)) o4 G4 o4 (hsR G4 xa 0 (some q1)) := gFr.rf.sR (Or.inr (oa.trans ho))
    refine ⟨(g2 gNo).C hc, hlet_i ?_⟩
    have P1 : gFr (gOnly (1, 0)) o G o4 (hsR G4 xa 0 (some q1)) := (g2 _).tr p1
    intro q39 hq39
    refine hlet_i (s_newAL (o := o4) (1, 1) (((hk.1.fr (g2 gNo) (fun z => z)).fr p1 n0)) hq39 fun G5 r1 r2 => ?_)
    have P2 : gFr (gOnly (1, 0)) o G (gU o4 q39 (1, 1)) G5 := P1.tr (r2 _)
    have ow2 : gU o4 q39 (1, 1) xa = (1, 0) := (P2.O hc).trans ho
    refine ⟨P2.C hc, hlet_i ?_⟩
    have p3 : gFr (gOnly (1, 0)) (gU o4 q39 (1, 1)) G5 (gU o4 q39 (1, 1)) (hsR G5 xa 1 (some q39)) := gFr.rf.sR (Or.inr ow2)
    intro q52 hq52
    refine hlet_i ?_
    have p4 : ∀ M, gFr M (gU o4 q39 (1, 1)) (hsR G5 xa 1 (some q39)) (gU (gU o4 q39 (1, 1)) q52 (1, 2)) (hnw (hsR G5 xa 1 (some q39)) q52 102 150) := fun M => gFr.rf.nw _ hq52
    have P4 : gFr (gOnly (1, 0)) o G (gU (gU o4 q39 (1, 1)) q52 (1, 2)) (hnw (hsR G5 xa 1 (some q39)) q52 102 150) := (P2.tr p3).tr (p4 _)
    have ow4 := (P4.O hc).trans ho
    have p5 : gFr (gOnly (1, 0)) (gU (gU o4 q39 (1, 1)) q52 (1, 2)) (hnw (hsR G5 xa 1 (some q39)) q52 102 150) (gU (gU o4 q39 (1, 1)) q52 (1, 2)) (hsR (hnw (hsR G5 xa 1 (some q39)) q52 102 150) xa 2 (some q52)) := gFr.rf.sR (Or.inr ow4)
    have P5 := P4.tr p5
    refine ⟨P4.C hc, hlet_i (hQ _ _ ⟨q1, q39, q52, 4, [], [], ⟨P5.C hc, ow4, ?_, ?_, ?_, ?_⟩, ⟨?_, rfl, rfl, by decide, fun k b' a' B' z => (by cases z)⟩, ⟨?_, gU_s, ?_, fun k hk => absurd hk (Nat.not_lt_zero _)⟩, ⟨by decide, fun t ht => (nomatch ht)⟩, ⟨⟨x, ?_⟩, gB_0⟩, ⟨by decide, fun i hi => ?_⟩, hk.fr P5 n0⟩ (P5.mono fun v z => by rw [show v = (1, 0) from z]; exact xM_1))⟩
    · have xq : xa ≠ q52 := fun z => by
        have := (P2.tr p3).C hc
        unfold hfr at hq52
        rw [← z, this] at hq52
        cases hq52
      rw [hR_sR, if_neg (fun z => by cases z.2), hR_nw, if_neg xq, hR_sR, if_neg (fun z => by cases z.2)]
      have s5 := (r2 gNo).S (p1.C ((g2 gNo).C hc)) (oa.trans ho) (fun z => z)
      rw [s5.2.2.2, hR_sR, if_pos ⟨rfl, rfl⟩]
    · have xq : xa ≠ q52 := fun z => by
        have := (P2.tr p3).C hc
        unfold hfr at hq52
        rw [← z, this] at hq52
        cases hq52
      rw [hR_sR, if_neg (fun z => by cases z.2), hR_nw, if_neg xq, hR_sR, if_pos ⟨rfl, rfl⟩]
    · rw [hR_sR, if_pos ⟨rfl, rfl⟩]
    · have xq : xa ≠ q52 := fun z => by
        have := (P2.tr p3).C hc
        unfold hfr at hq52
        rw [← z, this] at hq52
        cases hq52
      rw [hI_sR, hI_nw, if_neg xq, hI_sR]
      have s5 := (r2 gNo).S (p1.C ((g2 gNo).C hc)) (oa.trans ho) (fun z => z)
      rw [s5.2.1, hI_sR, s0.2.1]
      exact h3
    · exact (((show pAL _ G5 (1, 1) q39 [] from ⟨_, r1⟩).fr p3 (fun z => by cases z) n0).fr (p4 gNo) (fun z => z) (fun z => z)).fr p5 (fun z => by cases z) n0
    · rw [hC_sR, hC_nw, if_pos rfl]
    · rw [hN_sR, hN_nw, if_pos rfl]
    · exact ((((g1.br.fr p1 nb n0).fr (r2 gNo) (fun _ z => z) (fun z => z)).fr p3 nb n0).fr (p4 gNo) (fun _ z => z) (fun z => z)).fr p5 nb n0
    · rw [List.mem_singleton.mp hi]
      exact Nat.le_refl _
end P44
