/-! ===== plain law 50: the reader's words ===== -/
set_option maxRecDepth 100000
theorem cdn_snoc {W : List Nat} {d : Nat} : cdn (W ++ [d]) = cdn W * 32 + d := by
  unfold cdn
  rw [List.reverse_append]
  show d + 32 * cdr W.reverse = _
  omega
def wdT (T : List Nat) (p n : Nat) : List Nat := (List.range' p n).map (fun i => T.getD i 0 - 96)
theorem wdT_s {T : List Nat} {p n : Nat} : wdT T p (n + 1) = wdT T p n ++ [T.getD (p + n) 0 - 96] := by
  unfold wdT
  rw [List.range'_concat, List.map_append]
  simp
section P50
variable {o : gO} {G : hG} {xa ra p wa na : Nat} {T : List Nat} {f : Int32}
theorem rnM_at {lo hi : Nat} : ∀ {m p i : Nat}, i < rnM T lo hi m p → isA T (p + i) lo hi = true
  | 0, p, i, h => by cases h
  | m + 1, p, i, h => by
    unfold rnM at h
    by_cases e : isA T p lo hi = true
    · rw [if_pos e] at h
      cases i with
      | zero => exact e
      | succ i =>
        have := rnM_at (lo := lo) (hi := hi) (m := m) (p := p + 1) (i := i) (by omega)
        rw [show p + 1 + i = p + (i + 1) by omega] at this
        exact this
    · rw [if_neg e] at h
      cases h
theorem wdT_ok {n : Nat} (h1 : 0 < n) (h8 : n ≤ 8) (h : ∀ i, i < n → isA T (p + i) 97 122 = true) : gL (wdT T p n) := by
  refine ⟨by unfold wdT; simp; omega, by unfold wdT; simp; omega, fun d hd => ?_⟩
  unfold wdT at hd
  obtain ⟨i, hi, hd⟩ := List.mem_map.mp hd
  obtain ⟨j, hj, hj2⟩ := List.mem_range'.mp hi
  have := isA_iff.mp (h j hj)
  rw [← hd, hj2, Nat.one_mul]
  omega
theorem cdn_bd : ∀ {n : Nat}, (∀ i, i < n → isA T (p + i) 97 122 = true) → cdn (wdT T p n) < 32 ^ n
  | 0, _ => Nat.zero_lt_one
  | n + 1, h => by
    rw [wdT_s, cdn_snoc]
    have h1 := cdn_bd (n := n) (fun i hi => h i (by omega))
    have h2 := isA_iff.mp (h n (by omega))
    rw [Nat.pow_succ]
    omega
def goodW (T : List Nat) (p : Nat) : Bool := decide (0 < rnM T 97 122 8 p) && !isA T (p + rnM T 97 122 8 p) 97 122
theorem s_rw113 {Q : hG → Int32 → Prop} {X : Bool → hG → Prop} {k : Nat} {v : Int32} {y : Option Nat} (hk : k < 2) (h : pRd o G xa ra T p f wa na) (hy : ∀ z, y = some z → hcl G z 4) (hv : hFt .boolean v) (hQ : ∀ G', pRd o G' xa ra T p f wa na → gFr rdM o G o G' → hR G' wa k = y → (∀ j, j ≠ k → hR G' wa j = hR G wa j) → hR G' ra = hR G ra → hI G' = hI G → Q G' v) : wX11_readWord_b113 Q X v (some wa) (nI k) y G := by
  obtain ⟨h0, ⟨a1, a2, a3, a4, a5, a6, a7⟩, ⟨b1, b2, b3⟩, ⟨c1, c2, c3⟩, d⟩ := h
  have rwa : ra ≠ wa := fun z => by rw [z, b1] at a1; cases a1
  unfold wX11_readWord_b113
  refine ⟨wa, rfl, b1, vp_in_nI (by omega) (by omega), fun z ez => ?_, ?_⟩
  · rw [if_neg (by decide)]
    exact hy z ez
  rw [nI_clamp (by omega)]
  have fw : gFr rdM o G o (hsR G wa k y) := gFr.rf.sR (Or.inr (Or.inr b2))
  refine hlet_i ⟨hv, hQ _ ⟨h0.fr fw (fun i => rdM_1), ⟨a1, a2, ?_, a4, a5, ?_, ?_⟩, ⟨b1, b2, b3⟩, ⟨c1, c2, c3⟩, d⟩ fw (by rw [hR_sR, if_pos ⟨rfl, rfl⟩]) (fun j hj => by rw [hR_sR, if_neg (fun z => hj z.2)]) (funext fun j => by rw [hR_sR, if_neg (fun z => rwa z.1)]) rfl⟩
  · rw [hR_sR, if_neg (fun z => rwa z.1)]
    exact a3
  · rw [hR_sR, if_neg (fun z => rwa z.1)]
    exact a6
  · rw [hR_sR, if_neg (fun z => rwa z.1)]
    exact a7
theorem s_readWord {Q : hG → Int32 → Prop} {X : Bool → hG → Prop} {k : Nat} (hk2 : k < 2) (h : pRd o G xa ra T p f wa na)
    (h1 : goodW T p = true → ∀ o' G' y, pRd o' G' xa ra T (p + rnM T 97 122 8 p) f wa na → gFr rdM o G o' G' → hR G' wa k = some y → pW o' G' y (wdT T p (rnM T 97 122 8 p)) → (∀ j, j ≠ k → hR G' wa j = hR G wa j) → hR G' ra = hR G ra → hI G' na = hI G na → Q G' 1)
    (h0 : goodW T p = false → ∀ G', pRd o G' xa ra T (p + rnM T 97 122 8 p) f wa na → gFr rdM o G o G' → hR G' ra = hR G ra → Q G' 0) : wX11_readWord Q X ra (nI k) G := by
  have hh0 := h
  have a1 := h.2.1.1
  have a4 := h.2.1.2.2.2.1
  have h23 := h.1.2.1
  have rna : ra ≠ na := fun z => by rw [z, h.2.2.2.1.1] at a1; cases a1
  have hok : ∀ i, i < rnM T 97 122 8 p → isA T (p + i) 97 122 = true := fun i hi => rnM_at hi
  have h8 := (rnM_le (T := T) (lo := 97) (hi := 122) (m := 8) (p := p) h.2.2.2.2).2
  unfold goodW at h1 h0
  obtain ⟨E, hE⟩ : ∃ E, E = rnM T 97 122 8 p := ⟨_, rfl⟩
  rw [← hE] at h1 h0 hok h8
  have fin : ∀ (j : Nat) (w : Int64) (G1 : hG), j = p + E → w = cd (wdT T p E) → pRd o G1 xa ra T j f wa na → gFr rdM o G o G1 → hR G1 = hR G → hI G1 na = hI G na → wX11_readWord_b65 Q X ra (nI k) (nI p) w G1 := by
    intro j w G1 ej ew r1 r2 r3 r4
    subst ej
    have a1' := r1.2.1.1
    have a6' := r1.2.1.2.2.2.2.2.1
    have hle := r1.2.2.2.2
    have bad : (decide (0 < E) && !isA T (p + E) 97 122) = false → wX11_readWord_b88 Q X ra (nI k) w G1 := by
      intro e
      unfold wX11_readWord_b88 wX11_readWord_b89
      refine ⟨hclt a1', hlet_i (br_t rfl ?_)⟩
      rw [a6']
      exact s_rw113 hk2 r1 (fun z ez => by cases ez) hft0 fun G2 q1 q2 q3 q4 q5 q6 => h0 e G2 q1 (r2.tr q2) (by rw [q5, r3])
    unfold wX11_readWord_b65
    refine ⟨hclt a1', ?_⟩
    rw [r1.2.1.2.2.2.1]
    refine br_c (fun z => bad ?_) (fun z => ⟨hclt a1', s_isAt (lo := 97) (hi := 122) (by decide) (by decide) r1 ?_⟩)
    · have := (nI_leI (by omega) (by omega)).mp z
      have e0 : E = 0 := by omega
      rw [e0]
      rfl
    · have hp0 : 0 < E := by
        apply Nat.pos_of_ne_zero
        intro y
        exact z ((nI_leI (by omega) (by omega)).mpr (by omega))
      by_cases e : isA T (p + E) 97 122 = true
      · rw [if_pos e]
        refine br_f (by decide) (bad ?_)
        rw [e]
        simp
      · rw [if_neg e]
        refine br_t rfl ?_
        have eg : (decide (0 < E) && !isA T (p + E) 97 122) = true := by
          rw [decide_eq_true hp0, Bool.eq_false_iff.mpr e]
          rfl
        unfold wX11_readWord_b89
        refine ⟨hclt a1', hlet_i (br_f (by decide) ?_)⟩
        rw [a6', ew]
        have hgl := wdT_ok hp0 h8 hok
        refine s_newL (o := o) (P := fun q5 G10 => wX11_readWord_b113 Q X (1 : Int32) (some wa) (nI k) (some q5) G10) (fun z => ?_) (fun l q o2 G2 hl hq f2 => ?_)
        · rw [pz_cd hgl] at z
          cases z
        · rw [pz_cd hgl] at hl
          cases hl
          have r1' := r1.fr (f2 gNo) (fun _ z => z) (fun z => z) (fun z => z)
          have sr := (f2 gNo).S a1' r1.2.1.2.1 (fun z => z)
          have sn := (f2 gNo).S r1.2.2.2.1.1 r1.2.2.2.1.2.1 (fun z => z)
          have sw := (f2 gNo).S r1.2.2.1.1 r1.2.2.1.2.1 (fun z => z)
          refine s_rw113 hk2 r1' (fun z ez => by cases ez; exact hclt hq.1) hft1 fun G3 q1 q2 q3 q4 q5 q6 => h1 eg o2 G3 q q1 ((r2.tr (f2 _)).tr q2) q3 (hq.fr q2 rdM_0) (fun j hj => ?_) ?_ ?_
          · rw [q4 j hj, sw.2.2.2, r3]
          · rw [q5, sr.2.2.2, r3]
          · rw [q6, sn.2.1, r4]
  have lp : ∀ (m j : Nat) (G1 : hG), j + m = 8 → pRd o G1 xa ra T (p + j) f wa na → gFr rdM o G o G1 → hR G1 = hR G → hI G1 na = hI G na → j + rnM T 97 122 m (p + j) = E → wX11_readWord_l7 Q X (m + 1) ra (nI k) (nI p) (cd (wdT T p j)) G1 := by
    intro m
    induction m with
    | zero =>
      intro j G1 hj r1 r2 r3 r4 ej
      have a1' := r1.2.1.1
      have hle := r1.2.2.2.2
      have ej' : j = E := ej
      show wX11_readWord_b7 Q X _ _ _ _ _ _
      unfold wX11_readWord_b7
      refine ⟨hclt a1', s_isAt (lo := 97) (hi := 122) (by decide) (by decide) r1 ?_⟩
      by_cases e : isA T (p + j) 97 122 = true
      · rw [if_pos e]
        refine br_f (by decide) ⟨hclt a1', ?_⟩
        rw [r1.2.1.2.2.2.1, show nI p + (8 : Int32) = nI (p + 8) from nI_add p 8]
        exact br_t ((nI_leI (by omega) (by omega)).mpr (by omega)) (fin (p + j) _ G1 (by rw [ej']) (by rw [ej']) r1 r2 r3 r4)
      · rw [if_neg e]
        exact br_t rfl (fin (p + j) _ G1 (by rw [ej']) (by rw [ej']) r1 r2 r3 r4)
    | succ m ih =>
      intro j G1 hj r1 r2 r3 r4 ej
      have hr1 := r1
      obtain ⟨⟨⟨x1, x2, x3, ta, x4, x5, x6, x7, x8⟩, x9, x10⟩, ⟨a1', a2', a3', a4', a5', a6', a7'⟩, -, ⟨c1', c2', c3'⟩, d'⟩ := r1
      show wX11_readWord_b7 Q X (wX11_readWord_l7 Q X (m + 1)) _ _ _ _ _
      unfold wX11_readWord_b7
      unfold rnM at ej
      refine ⟨hclt a1', s_isAt (lo := 97) (hi := 122) (by decide) (by decide) hr1 ?_⟩
      by_cases e : isA T (p + j) 97 122 = true
      · rw [if_pos e] at ej ⊢
        obtain ⟨e1, e2, e3⟩ := isA_iff.mp e
        refine br_f (by decide) ⟨hclt a1', ?_⟩
        rw [a4', show nI p + (8 : Int32) = nI (p + 8) from nI_add p 8]
        refine br_f (fun z => by have := (nI_leI (by omega) (by omega)).mp z; omega) ⟨hclt a1', hlet_i ⟨xa, a3', hclt x1, hlet_i ⟨hclt a1', ta, x4, hclt x5, vp_in_nI (by omega) (by omega), ?_⟩⟩⟩
        have hbd : cdn (wdT T p j) < 32 ^ j := cdn_bd (n := j) (fun i hi => hok i (by omega))
        have h35 : 32 ^ j ≤ 32 ^ 7 := Nat.pow_le_pow_right (by decide) (by omega)
        have hcode : (cd (wdT T p j) <<< (((5 : Int32)).toInt64 &&& 63)) ||| (((((hI G1 ta (Int32.toNatClampNeg (nI (p + j)))) - (97 : Int32)) + (1 : Int32))).toInt64) = cd (wdT T p (j + 1)) := by
          rw [nI_clamp (by omega), x8 (p + j) e1, show (97 : Int32) = nI 97 from rfl, nI_sub (by omega), show nI (T.getD (p + j) 0 - 97) + (1 : Int32) = nI (T.getD (p + j) 0 - 97 + 1) from nI_1 _, i64_nI (by omega)]
          unfold cd
          rw [show ((5 : Int32)).toInt64 &&& 63 = ((nI 5).toInt64 &&& 63) from rfl, wb_shl _ (by decide), g_or (k := 5) (p := 32) rfl (by omega) (by
            have : (32 : Nat) ^ 7 = 34359738368 := by decide
            omega), wdT_s, cdn_snoc, show T.getD (p + j) 0 - 97 + 1 = T.getD (p + j) 0 - 96 by omega]
        rw [hcode]
        have mv := hr1.mv (p' := p + j + 1) e1
        have rna' : ra ≠ na := fun z => by rw [z, c1'] at a1'; cases a1'
        refine hlet_i ⟨hclt a1', a1', ?_⟩
        rw [show nI (p + j) + (1 : Int32) = nI (p + j + 1) from nI_1 _]
        refine hlet_i (ih (j + 1) _ (by omega) mv.1 (r2.tr mv.2.rd) r3 ?_ (by rw [show p + (j + 1) = p + j + 1 by omega]; omega))
        rw [← r4]
        funext i
        rw [hI_sI, if_neg (fun z => rna' z.1.symm)]
      · rw [if_neg e] at ej ⊢
        have ej' : j = E := ej
        exact br_t rfl (fin (p + j) _ G1 (by rw [ej']) (by rw [ej']) hr1 r2 r3 r4)
  unfold wX11_readWord
  refine ⟨hclt a1, 9, ?_⟩
  rw [a4]
  exact lp 8 0 G rfl h gFr.rf rfl rfl (by rw [hE, Nat.zero_add]; rfl)
end P50
