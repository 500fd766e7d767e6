/-! ===== plain law 49: the reader: isAt, spaces, numbers ===== -/
set_option maxRecDepth 100000
/-- the command text of the object at xa -/
def pTx (o : gO) (G : hG) (xa : Nat) (T : List Nat) : Prop := (hC G xa = some (1, true) ∧ o xa = (1, 0) ∧ hI G xa 3 = nI T.length ∧ ∃ ta, hR G xa 2 = some ta ∧ hC G ta = some (102, true) ∧ o ta = (1, 2) ∧ hN G ta = 150 ∧ ∀ k, k < T.length → hI G ta k = nI (T.getD k 0)) ∧ T.length ≤ 23 ∧ ∀ t, t ∈ T → t < 128
/-- a reader of it at place p with fault f -/
def pRd (o : gO) (G : hG) (xa ra : Nat) (T : List Nat) (p : Nat) (f : Int32) (wa na : Nat) : Prop := pTx o G xa T ∧ (hC G ra = some (8, true) ∧ o ra = (0, 7) ∧ hR G ra 5 = some xa ∧ hI G ra 0 = nI p ∧ hI G ra 1 = f ∧ hR G ra 3 = some wa ∧ hR G ra 4 = some na) ∧ (hC G wa = some (104, true) ∧ o wa = (0, 5) ∧ hN G wa = 2) ∧ (hC G na = some (100, true) ∧ o na = (0, 5) ∧ hN G na = 2) ∧ p ≤ T.length
/-- owners: the reader, its arrays -/
def rdM : Nat × Nat → Prop := fun v => v = (0, 7) ∨ v = (0, 5)
theorem gFr.rd {o o' : gO} {G G' : hG} (h : gFr (gOnly (0, 7)) o G o' G') : gFr rdM o G o' G' := h.mono fun _ z => Or.inl z
/-- all temporary owners -/
def tR : Nat × Nat → Prop := fun v => v.1 = 0 ∧ v.2 ≠ 0
theorem gFr.t7 {i : Nat} {o o' : gO} {G G' : hG} (h : gFr (gOnly (0, i)) o G o' G') (hi : i ≠ 0) : gFr tR o G o' G' := h.mono fun v z => by rw [show v = (0, i) from z]; exact ⟨rfl, hi⟩
theorem gFr.rt {o o' : gO} {G G' : hG} (h : gFr rdM o G o' G') : gFr tR o G o' G' := h.mono fun v z => by
  rcases z with z | z <;> (rw [z]; exact ⟨rfl, by decide⟩)
theorem rdM_1 {i : Nat} : ¬ rdM (1, i) := fun z => by
  rcases z with z | z
  · have : 1 = 0 := congrArg Prod.fst z
    omega
  · have : 1 = 0 := congrArg Prod.fst z
    omega
theorem rdM_0 : ¬ rdM (0, 0) := fun z => by
  rcases z with z | z
  · have : 0 = 7 := congrArg Prod.snd z
    omega
  · have : 0 = 5 := congrArg Prod.snd z
    omega
section P49
variable {o : gO} {G : hG} {xa ra p wa na : Nat} {T : List Nat} {f : Int32}
theorem pTx.fr {M : Nat × Nat → Prop} {o' : gO} {G' : hG} (h : pTx o G xa T) (hf : gFr M o G o' G') (h1 : ∀ i, ¬ M (1, i)) : pTx o' G' xa T := by
  obtain ⟨⟨h1', h2, h3, ta, h4, h5, h6, h7, h8⟩, h9⟩ := h
  have s := hf.S h1' h2 (h1 0)
  have s2 := hf.S h5 h6 (h1 2)
  exact ⟨⟨hf.C h1', (hf.O h1').trans h2, s.I h3, ta, s.R h4, hf.C h5, (hf.O h5).trans h6, s2.N h7, fun k hk => s2.I (h8 k hk)⟩, h9⟩
theorem pRd.fr {M : Nat × Nat → Prop} {o' : gO} {G' : hG} (h : pRd o G xa ra T p f wa na) (hf : gFr M o G o' G') (h1 : ∀ i, ¬ M (1, i)) (h7 : ¬ M (0, 7)) (h5 : ¬ M (0, 5)) : pRd o' G' xa ra T p f wa na := by
  obtain ⟨h0, ⟨a1, a2, a3, a4, a5, a6, a7⟩, ⟨b1, b2, b3⟩, ⟨c1, c2, c3⟩, d⟩ := h
  have s := hf.S a1 a2 h7
  have s2 := hf.S b1 b2 h5
  have s3 := hf.S c1 c2 h5
  exact ⟨h0.fr hf h1, ⟨hf.C a1, (hf.O a1).trans a2, s.R a3, s.I a4, s.I a5, s.R a6, s.R a7⟩, ⟨hf.C b1, (hf.O b1).trans b2, s2.N b3⟩, ⟨hf.C c1, (hf.O c1).trans c2, s3.N c3⟩, d⟩
/-- the place alone changes -/
theorem pRd.mv (h : pRd o G xa ra T p f wa na) {p' : Nat} (hp : p' ≤ T.length) : pRd o (hsI G ra 0 (nI p')) xa ra T p' f wa na ∧ gFr (gOnly (0, 7)) o G o (hsI G ra 0 (nI p')) := by
  obtain ⟨h0, ⟨a1, a2, a3, a4, a5, a6, a7⟩, ⟨b1, b2, b3⟩, ⟨c1, c2, c3⟩, d⟩ := h
  have fr : gFr (gOnly (0, 7)) o G o (hsI G ra 0 (nI p')) := gFr.rf.sI (Or.inr a2)
  exact ⟨⟨h0.fr fr (fun i z => by cases z), ⟨a1, a2, a3, by rw [hI_sI, if_pos ⟨rfl, rfl⟩], by rw [hI_sI, if_neg (fun z => by cases z.2)]; exact a5, a6, a7⟩, ⟨b1, b2, b3⟩, ⟨c1, c2, c3⟩, hp⟩, fr⟩
def isA (T : List Nat) (p lo hi : Nat) : Bool := decide (p < T.length) && (decide (lo ≤ T.getD p 0) && decide (T.getD p 0 ≤ hi))
theorem isA_iff {lo hi : Nat} : isA T p lo hi = true ↔ p < T.length ∧ lo ≤ T.getD p 0 ∧ T.getD p 0 ≤ hi := by simp [isA]
theorem s_isAt {Q : hG → Int32 → Prop} {lo hi : Nat} (hlo : lo < 200) (hhi : hi < 200) (h : pRd o G xa ra T p f wa na) (hQ : Q G (if isA T p lo hi then 1 else 0)) : wX11_isAt Q ra (nI lo) (nI hi) G := by
  obtain ⟨⟨⟨x1, x2, x3, ta, x4, x5, x6, x7, x8⟩, x9, x10⟩, ⟨a1, a2, a3, a4, a5, a6, a7⟩, -, -, d⟩ := h
  unfold wX11_isAt wX11_isAt_b41 wX11_isAt_b42
  refine ⟨hclt a1, hclt a1, hlet_i ⟨xa, a3, hclt x1, ?_⟩⟩
  rw [x3, a4]
  refine br_c (fun z => ⟨hft0, ?_⟩) (fun z => ⟨hclt a1, hlet_i ⟨xa, a3, hclt x1, hlet_i ⟨hclt a1, ta, x4, hclt x5, vp_in_nI (by omega) (by omega), ?_⟩⟩⟩)
  · have := (nI_leI (by omega) (by omega)).mp z
    rw [if_neg (fun y => by have := (isA_iff.mp y).1; omega)] at hQ
    exact hQ
  · have hp : p < T.length := Nat.not_le.mp fun y => z ((nI_leI (by omega) (by omega)).mpr y)
    rw [nI_clamp (by omega), x8 p hp]
    have hb : T.getD p 0 < 128 := by
      rw [List.getD_eq_getElem?_getD, List.getElem?_eq_getElem hp]
      exact x10 _ (List.getElem_mem hp)
    refine s_rng (lo := lo) (hi := hi) (i64_nI (by omega)) (i64_nI (by omega)) (by omega) (by omega) (fun n n1 n2 n3 => br_f (by decide) ⟨hft1, ?_⟩) (fun z => br_t rfl ⟨hft0, ?_⟩)
    · have e := (nI_eq (by omega) (by omega)).mp n3
      rw [if_pos (isA_iff.mpr ⟨hp, by omega, by omega⟩)] at hQ
      exact hQ
    · rw [if_neg (fun y => z ⟨T.getD p 0, (isA_iff.mp y).2.1, (isA_iff.mp y).2.2, rfl⟩)] at hQ
      exact hQ
/-- how far letters of a kind reach, at most m -/
def rnM (T : List Nat) (lo hi : Nat) : Nat → Nat → Nat
  | 0, _ => 0
  | m + 1, p => if isA T p lo hi then rnM T lo hi m (p + 1) + 1 else 0
theorem rnM_le {lo hi : Nat} : ∀ {m p : Nat}, p ≤ T.length → p + rnM T lo hi m p ≤ T.length ∧ rnM T lo hi m p ≤ m
  | 0, p, h => ⟨h, Nat.le_refl _⟩
  | m + 1, p, h => by
    unfold rnM
    by_cases e : isA T p lo hi = true
    · rw [if_pos e]
      have := rnM_le (lo := lo) (hi := hi) (m := m) (p := p + 1) (isA_iff.mp e).1
      omega
    · rw [if_neg e]
      omega
theorem s_spaces {Q : hG → Int32 → Prop} (h : pRd o G xa ra T p f wa na) (hQ : ∀ G', pRd o G' xa ra T (p + rnM T 32 32 24 p) f wa na → gFr (gOnly (0, 7)) o G o G' → hR G' = hR G → Q G' (if 0 < rnM T 32 32 24 p then 1 else 0)) : wX11_spaces Q ra G := by
  obtain ⟨E, hE⟩ : ∃ E, E = rnM T 32 32 24 p := ⟨_, rfl⟩
  rw [← hE] at hQ
  have lp : ∀ (m k : Nat) (G1 : hG), pRd o G1 xa ra T k f wa na → p ≤ k → T.length < k + m → gFr (gOnly (0, 7)) o G o G1 → hR G1 = hR G → k + rnM T 32 32 m k = p + E → wX11_spaces_l5 Q (m + 1) ra (nI p) G1 := by
    intro m
    induction m with
    | zero =>
      intro k G1 h hk hm
      have := h.2.2.2.2
      omega
    | succ m ih =>
      intro k G1 h hk hm hf hr he
      have hh := h
      obtain ⟨h0, ⟨a1, a2, a3, a4, a5, a6, a7⟩, -, -, d⟩ := h
      have h23 := h0.2.1
      show wX11_spaces_b5 Q (wX11_spaces_l5 Q (m + 1)) _ _ _
      unfold wX11_spaces_b5
      unfold rnM at he
      refine ⟨hclt a1, s_isAt (lo := 32) (hi := 32) (by decide) (by decide) hh ?_⟩
      by_cases e : isA T k 32 32 = true
      · rw [if_pos e] at he ⊢
        refine br_f (by decide) ⟨hclt a1, a1, ?_⟩
        rw [a4, show nI k + (1 : Int32) = nI (k + 1) from nI_1 _]
        have mv := hh.mv (p' := k + 1) (isA_iff.mp e).1
        exact hlet_i (ih (k + 1) _ mv.1 (by omega) (by omega) (hf.tr mv.2) hr (by omega))
      · rw [if_neg e] at he ⊢
        refine br_t rfl ⟨hclt a1, ?_⟩
        rw [a4]
        have q := hQ G1 (by rw [← he, Nat.add_zero]; exact hh) hf hr
        unfold wX11_spaces_b42
        refine br_c (fun z => ⟨hft0, ?_⟩) (fun z => ⟨hft1, ?_⟩)
        · have := (nI_leI (by omega) (by omega)).mp z
          rw [if_neg (by omega)] at q
          exact q
        · have : ¬ k ≤ p := fun y => z ((nI_leI (by omega) (by omega)).mpr y)
          rw [if_pos (by omega)] at q
          exact q
  have a1 := h.2.1.1
  have h23 := h.1.2.1
  unfold wX11_spaces
  refine ⟨hclt a1, 25, ?_⟩
  rw [h.2.1.2.2.2.1]
  exact lp 24 p G h (Nat.le_refl _) (by omega) gFr.rf rfl (by rw [hE])
/-- the number that so many digits make -/
def dgV (T : List Nat) : Nat → Nat → Nat → Nat
  | 0, _, s => s
  | m + 1, p, s => dgV T m (p + 1) (10 * s + (T.getD p 0 - 48))
theorem s_readNumber {Q : hG → Int32 → Prop} {k : Nat} (hk2 : k < 2) (h : pRd o G xa ra T p f wa na) (hQ : ∀ G', pRd o G' xa ra T (p + rnM T 48 57 3 p) f wa na → gFr rdM o G o G' → hI G' na k = nI (dgV T (rnM T 48 57 3 p) p 0) → (∀ j, j ≠ k → hI G' na j = hI G na j) → hR G' = hR G → Q G' (if 0 < rnM T 48 57 3 p ∧ ¬ isA T (p + rnM T 48 57 3 p) 48 57 = true then 1 else 0)) : wX11_readNumber Q ra (nI k) G := by
  have hh0 := h
  obtain ⟨h0, ⟨a1, a2, a3, a4, a5, a6, a7⟩, ⟨b1, b2, b3⟩, ⟨c1, c2, c3⟩, d⟩ := h
  have h23 := h0.2.1
  have rna : ra ≠ na := fun z => by rw [z, c1] at a1; cases a1
  obtain ⟨E, hE⟩ : ∃ E, E = rnM T 48 57 3 p := ⟨_, rfl⟩
  obtain ⟨V0, hV0⟩ : ∃ V, V = dgV T E p 0 := ⟨_, rfl⟩
  rw [← hE, ← hV0] at hQ
  have fin : ∀ (j s : Nat) (G1 : hG), j = p + E → s = V0 → pRd o G1 xa ra T j f wa na → gFr rdM o G o G1 → hI G1 na k = nI s → (∀ i, i ≠ k → hI G1 na i = hI G na i) → hR G1 = hR G → wX11_readNumber_b77 Q ra (nI p) G1 := by
    intro j s G1 ej es r1 r2 r3 r4 r5
    subst ej
    subst es
    have q := hQ G1 r1 r2 r3 r4 r5
    have a1' := r1.2.1.1
    unfold wX11_readNumber_b77 wX11_readNumber_b100 wX11_readNumber_b101
    refine ⟨hclt a1', ?_⟩
    rw [r1.2.1.2.2.2.1]
    have hle := r1.2.2.2.2
    refine br_c (fun z => ⟨hft0, ?_⟩) (fun z => ⟨hclt a1', s_isAt (lo := 48) (hi := 57) (by decide) (by decide) r1 ?_⟩)
    · have := (nI_leI (by omega) (by omega)).mp z
      rw [if_neg (fun y => by omega)] at q
      exact q
    · have hp0 : 0 < E := by
        apply Nat.pos_of_ne_zero
        intro y
        exact z ((nI_leI (by omega) (by omega)).mpr (by omega))
      by_cases e : isA T (p + E) 48 57 = true
      · rw [if_pos e]
        rw [if_neg (fun y => y.2 e)] at q
        exact br_f (by decide) ⟨hft0, q⟩
      · rw [if_neg e]
        rw [if_pos ⟨hp0, e⟩] at q
        exact br_t rfl ⟨hft1, q⟩
  have lp : ∀ (m j s : Nat) (G1 : hG), p + 3 = j + m → s < 10000 → pRd o G1 xa ra T j f wa na → gFr rdM o G o G1 → hI G1 na k = nI s → (∀ i, i ≠ k → hI G1 na i = hI G na i) → hR G1 = hR G → j + rnM T 48 57 m j = p + E → dgV T (rnM T 48 57 m j) j s = V0 → 10 ^ m * (s + 1) ≤ 1000 → wX11_readNumber_l12 Q (m + 1) ra (nI k) (nI p) G1 := by
    intro m
    induction m with
    | zero =>
      intro j s G1 hj hs r1 r2 r3 r4 r5 ej es _
      have a1' := r1.2.1.1
      have hle := r1.2.2.2.2
      show wX11_readNumber_b12 Q _ _ _ _ _
      unfold wX11_readNumber_b12
      refine ⟨hclt a1', s_isAt (lo := 48) (hi := 57) (by decide) (by decide) r1 ?_⟩
      by_cases e : isA T j 48 57 = true
      · rw [if_pos e]
        refine br_f (by decide) ⟨hclt a1', ?_⟩
        rw [r1.2.1.2.2.2.1, show nI p + (3 : Int32) = nI (p + 3) from nI_add p 3]
        exact br_t ((nI_leI (by omega) (by omega)).mpr (by omega)) (fin j s G1 ej es r1 r2 r3 r4 r5)
      · rw [if_neg e]
        exact br_t rfl (fin j s G1 ej es r1 r2 r3 r4 r5)
    | succ m ih =>
      intro j s G1 hj hs r1 r2 r3 r4 r5 ej es hb
      have hr1 := r1
      obtain ⟨⟨⟨x1, x2, x3, ta, x4, x5, x6, x7, x8⟩, x9, x10⟩, ⟨a1', a2', a3', a4', a5', a6', a7'⟩, -, ⟨c1', c2', c3'⟩, d'⟩ := r1
      show wX11_readNumber_b12 Q (wX11_readNumber_l12 Q (m + 1)) _ _ _ _
      unfold wX11_readNumber_b12
      unfold rnM at ej es
      refine ⟨hclt a1', s_isAt (lo := 48) (hi := 57) (by decide) (by decide) hr1 ?_⟩
      by_cases e : isA T j 48 57 = true
      · rw [if_pos e] at ej es ⊢
        obtain ⟨e1, e2, e3⟩ := isA_iff.mp e
        refine br_f (by decide) ⟨hclt a1', ?_⟩
        rw [a4', show nI p + (3 : Int32) = nI (p + 3) from nI_add p 3]
        refine br_f (fun z => by have := (nI_leI (by omega) (by omega)).mp z; omega) ⟨hclt a1', hlet_i ⟨hclt a1', hlet_i ⟨na, a7', hclt c1', vp_in_nI (by omega) (by omega), hclt a1', hlet_i ⟨xa, a3', hclt x1, hlet_i ⟨hclt a1', ta, x4, hclt x5, vp_in_nI (by omega) (by omega), na, a7', c1', vp_in_nI (by omega) (by omega), ?_⟩⟩⟩⟩⟩
        rw [nI_clamp (by omega), nI_clamp (by omega), r3, x8 j e1, show (10 : Int32) * nI s + nI (T.getD j 0) - 48 = nI (10 * s + (T.getD j 0 - 48)) by
          rw [show (10 : Int32) = nI 10 from rfl, pk_mul, nI_add, show (48 : Int32) = nI 48 from rfl, nI_sub (by omega)]
          congr 1
          omega]
        have fw : gFr rdM o G1 o (hsI G1 na k (nI (10 * s + (T.getD j 0 - 48)))) := gFr.rf.sI (Or.inr (Or.inr c2'))
        have rna' : ra ≠ na := fun z => by rw [z, c1'] at a1'; cases a1'
        have r1w : pRd o (hsI G1 na k (nI (10 * s + (T.getD j 0 - 48)))) xa ra T j f wa na := ⟨hr1.1.fr fw (fun i => rdM_1), ⟨a1', a2', a3', by rw [hI_sI, if_neg (fun z => rna' z.1)]; exact a4', by rw [hI_sI, if_neg (fun z => rna' z.1)]; exact a5', a6', a7'⟩, hr1.2.2.1, ⟨c1', c2', c3'⟩, d'⟩
        refine hlet_i ⟨hclt a1', a1', ?_⟩
        rw [r1w.2.1.2.2.2.1, show nI j + (1 : Int32) = nI (j + 1) from nI_1 _]
        have mv := r1w.mv (p' := j + 1) e1
        have h10 : 10 ^ (m + 1) = 10 * 10 ^ m := by rw [Nat.pow_succ, Nat.mul_comm]
        have hb2 : 10 ^ m * (10 * s + (T.getD j 0 - 48) + 1) ≤ 1000 := by
          have : 10 * s + (T.getD j 0 - 48) + 1 ≤ 10 * (s + 1) := by omega
          refine Nat.le_trans (Nat.mul_le_mul_left _ this) ?_
          rw [h10] at hb
          rw [← Nat.mul_assoc, Nat.mul_comm (10 ^ m) 10]
          exact hb
        refine hlet_i (ih (j + 1) (10 * s + (T.getD j 0 - 48)) _ (by omega) ?_ mv.1 ((r2.tr fw).tr mv.2.rd) ?_ (fun i hi => ?_) r5 (by omega) ?_ hb2)
        · have h1 : 1 ≤ 10 ^ m := Nat.pos_of_ne_zero (by simp)
          have := Nat.le_trans (Nat.mul_le_mul_right (10 * s + (T.getD j 0 - 48) + 1) h1) hb2
          omega
        · rw [hI_sI, if_neg (fun z => rna' z.1.symm), hI_sI, if_pos ⟨rfl, rfl⟩]
        · rw [hI_sI, if_neg (fun z => rna' z.1.symm), hI_sI, if_neg (fun z => hi z.2)]
          exact r4 i hi
        · exact es
      · rw [if_neg e] at ej es ⊢
        exact br_t rfl (fin j s G1 ej es hr1 r2 r3 r4 r5)
  unfold wX11_readNumber
  have fw : gFr rdM o G o (hsI G na k 0) := gFr.rf.sI (Or.inr (Or.inr c2))
  have r1w : pRd o (hsI G na k 0) xa ra T p f wa na := ⟨h0.fr fw (fun i => rdM_1), ⟨a1, a2, a3, by rw [hI_sI, if_neg (fun z => rna z.1)]; exact a4, by rw [hI_sI, if_neg (fun z => rna z.1)]; exact a5, a6, a7⟩, ⟨b1, b2, b3⟩, ⟨c1, c2, c3⟩, d⟩
  refine ⟨hclt a1, hclt a1, hlet_i ⟨na, a7, c1, vp_in_nI (by omega) (by omega), ?_⟩⟩
  rw [nI_clamp (by omega), a4]
  refine hlet_i ⟨4, lp 3 p 0 _ rfl (by decide) r1w fw ?_ (fun i hi => ?_) rfl (by rw [hE]) (by rw [hV0, hE]) (by decide)⟩
  · rw [hI_sI, if_pos ⟨rfl, rfl⟩]
    rfl
  · rw [hI_sI, if_neg (fun z => hi z.2)]
end P49
