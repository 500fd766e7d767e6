/-! ===== plain law 32: suggestion, reason, risk, riskiest, bestDropping ===== -/
set_option maxRecDepth 100000
section P32
variable {b a : Nat} {x : Nat → Nat} {B : Bk} {l m : Wd} {c : Nat} {o : gO} {G : hG}
def sgA (T : List It) (i : Nat) : Int64 := match T[i]? with
  | none => -1
  | some e => cd e.1
theorem s_sg37 {Q : hG → Int64 → Prop} {q : Nat} {T : List It} (h : pPQ o G (0, 8) q T) (hs : T.Pairwise (fun p q => iLb p q = true)) (hQ : Q G (sgA T 0)) : wX2_suggestion_b37 Q (some q) G := by
  unfold wX2_suggestion_b37 wX2_suggestion_b63
  refine ⟨q, rfl, hclt h.cl, s_qempty h ?_⟩
  cases T with
  | nil => exact br_f (by decide) hQ
  | cons t T =>
    rw [if_neg (by simp)]
    refine br_t rfl ⟨hclt h.cl, s_qpeek h hs fun s ps => ?_⟩
    obtain ⟨h1, h2, ⟨w, h3, h4⟩, h5⟩ := ps
    refine ⟨fun y hy => (by cases hy; exact hclt h1), s, rfl, hclt h1, hlet_i ⟨w, h3, hclt h4.1, ?_⟩⟩
    rw [h4.2.2.1]
    exact hQ
theorem s_sgL {Q : hG → Int64 → Prop} {q r : Nat} (hr : r < 2 ^ 31) : ∀ (n : Nat) (T : List It) (k : Nat) (o : gO) (G : hG), T.length < n → k ≤ r → pPQ o G (0, 8) q T → T.Pairwise (fun p q => iLb p q = true) → (∀ o' G', gFr tM o G o' G' → Q G' (sgA T (r - k))) → wX2_suggestion_l9 Q n (nI r) (some q) (nI k) G := by
  intro n
  induction n with
  | zero =>
    intro T k o G hn
    omega
  | succ n ih =>
    intro T k o G hn hk h hs hQ
    show wX2_suggestion_b9 Q (wX2_suggestion_l9 Q n) _ _ _ _
    unfold wX2_suggestion_b9
    refine br_c (fun e => ?_) (fun e => ⟨q, rfl, hclt h.cl, s_qempty h ?_⟩)
    · have e2 := (nI_leI hr (by omega)).mp e
      have := hQ o G gFr.rf
      rw [show r - k = 0 by omega] at this
      exact s_sg37 h hs this
    · have e2 : k < r := Nat.not_le.mp fun z => e ((nI_leI hr (by omega)).mpr z)
      cases T with
      | nil =>
        refine br_f (by decide) (s_sg37 h hs ?_)
        have := hQ o G gFr.rf
        exact this
      | cons t T =>
        rw [if_neg (by simp)]
        refine br_t rfl ⟨hclt h.cl, s_qpoll (by decide) h hs fun s G' g1 g2 g3 => ⟨fun y hy => (by cases hy; exact hclt g1.1), ?_⟩⟩
        rw [show nI k + (1 : Int32) = nI (k + 1) from nI_1 _]
        refine ih T (k + 1) o G' (by rw [List.length_cons] at hn; omega) e2 g2 (List.pairwise_cons.mp hs).2 fun o2 G2 f2 => ?_
        have := hQ o2 G2 ((g3.t0 (by decide)).tr f2)
        unfold sgA at this ⊢
        rw [show r - k = (r - (k + 1)) + 1 by omega, List.getElem?_cons_succ] at this
        exact this
theorem pBr.nd (h : pBr o G b a x B) : (keys B).Pairwise (fun p q => wlt p q = true) := by
  obtain ⟨-, ⟨E, ⟨L, k, v, sub, root, h1, h2, h3⟩, p2⟩, -⟩ := h
  unfold keys
  rw [← p2.keys]
  exact List.pairwise_map.mpr h3
theorem wlt_nd {K : List Wd} (h : K.Pairwise (fun p q => wlt p q = true)) : K.Nodup := h.imp fun z => wlt_ne z
theorem s_bsuggestion {Q : hG → Int64 → Prop} {t r : Nat} (hr : r < 2 ^ 31) (hb : b ≠ 0) (hg : gB c B) (h : pBr o G b a x B) (hk : kS o G) (ht : pW o G t l) (hQ : ∀ o' G', pBr o' G' b a x B → gFr (qM b) o G o' G' → Q G' (sgA (sgT B l) r)) : wX2_suggestion Q a t (nI r) G := by
  unfold wX2_suggestion
  have hs : (sgT B l).Pairwise (fun p q => iLb p q = true) := sgT_pw _ _ (wlt_nd h.nd) (fun _ z => by cases z) List.Pairwise.nil
  refine ⟨hclt h.1.1, s_suggestions hb hg h hk ht fun o1 G1 q g1 g2 g3 => ⟨(sgT B l).length + 1, ?_⟩⟩
  exact s_sgL hr _ (sgT B l) 0 o1 G1 (Nat.lt_succ_self _) (Nat.zero_le _) g2 hs fun o2 G2 f2 => hQ o2 G2 (g1.ft hb f2) (g3.tr f2.t)
def rsn (B : Bk) (t w : Wd) : Nat := if w ∉ keys B then 1 else if bnd B t w then 2 else if bE B 0 < nI (dist (bK B) t w) then 3 else 0
theorem s_reason {Q : hG → Int32 → Prop} {t v : Nat} (h : pBr o G b a x B) (hk : kS o G) (ht : pW o G t l) (hv : pW o G v m) (hQ : ∀ o' G', (∀ M, gFr M o G o' G') → Q G' (nI (rsn B l m))) : wX2_reason Q a t v G := by
  have hh := h
  obtain ⟨⟨h1, h2, h3⟩, -⟩ := h
  unfold wX2_reason
  refine ⟨hclt h1, hlet_i ⟨x 0, h3 0 (by decide), hh.c0, s_whas hh hv (fun w => br_f (by decide) ⟨hclt h1, s_isBanned hh ht hv ?_⟩) (fun w => br_t rfl ?_)⟩⟩
  · by_cases e : bnd B l m = true
    · rw [if_pos e]
      refine br_f (by decide) ?_
      have := hQ o G (fun _ => gFr.rf)
      unfold rsn at this
      rw [if_neg (fun z => z w), if_pos e] at this
      exact this
    · rw [if_neg e]
      refine br_t rfl ⟨hclt h1, s_bdist hh hk ht hv fun o' G' f => ?_⟩
      have h' := hh.fr (f gNo) (fun _ z => z) (fun z => z)
      have := hQ o' G' f
      obtain ⟨⟨k1, k2, k3⟩, -, -, -, -, -, -, -, p7⟩ := h'
      refine ⟨hclt k1, hlet_i ⟨x 7, k3 7 (by decide), hclt p7.1, vp_in_nI (n := 0) (by rw [p7.2.2.1]; decide) (by rw [p7.2.2.1]; decide), ?_⟩⟩
      rw [show Int32.toNatClampNeg (0 : Int32) = 0 from rfl, p7.2.2.2 0 (by decide)]
      unfold rsn at this
      rw [if_neg (fun z => z w), if_neg e] at this
      unfold wX2_reason_b44
      refine br_c (fun z => ?_) (fun z => ?_)
      · rw [if_neg (Int32.not_lt.mpr z)] at this
        exact this
      · rw [if_pos (Int32.not_le.mp z)] at this
        exact this
  · have := hQ o G (fun _ => gFr.rf)
    unfold rsn at this
    rw [if_pos w] at this
    exact this
def rskS (B : Bk) (t : Wd) (n : Nat) (w : Wd) : Nat := if w = t then n else if bE B 0 < nI (dist (bK B) t w) then n else n + 1
def rsk (B : Bk) (t : Wd) : Nat := (keys B).foldl (rskS B t) 0
theorem s_riskL {Q : hG → Int32 → Prop} {t it : Nat} (hb : b ≠ 0) : ∀ (n : Nat) (K2 K1 : List Wd) (k : Nat) (o : gO) (G : hG), K2.length < n → pBi o G b a x B 10 K1 K2 it → kS o G → pW o G t l → (∀ o' G', gFr (gOnly (0, 10)) o G o' G' → Q G' (nI (K2.foldl (rskS B l) k))) → wX2_risk_l15 Q n a t (nI k) (some it) G := by
  intro n
  induction n with
  | zero =>
    intro K2 K1 k o G hn
    omega
  | succ n ih =>
    intro K2 K1 k o G hn h hk ht hQ
    show wX2_risk_b15 Q (wX2_risk_l15 Q n) _ _ _ _ _
    unfold wX2_risk_b15
    refine ⟨it, rfl, hclt h.ic, s_biHas h (fun e => br_t rfl ?_) (fun e => br_f (by decide) ⟨hclt h.ic, ?_⟩)⟩
    · rw [e] at hQ
      exact hQ o G gFr.rf
    · cases K2 with
      | nil => exact absurd rfl e
      | cons w K2 =>
        have n0 : ¬ gOnly (0, 10) (0, 0) := fun z => by cases z
        refine s_biNext (by decide) h hb fun G1 y g1 g2 g3 => ⟨fun y' ey => (by cases ey; exact hclt g3.1), y, rfl, hclt g3.1, ?_⟩
        have k1 := hk.fr g2 n0
        have t1 := ht.fr g2 n0
        rw [List.foldl_cons] at hQ
        have fin : ∀ o2 G2, gFr gNo o G1 o2 G2 → wX2_risk_l15 Q n a t (nI (rskS B l k w)) (some it) G2 := fun o2 G2 f2 =>
          ih K2 (K1 ++ [w]) _ o2 G2 (by rw [List.length_cons] at hn; omega) (g1.f0 f2) (k1.fr f2 (fun z => z)) (t1.fr f2 (fun z => z)) fun o3 G3 f3 => hQ o3 G3 ((g2.tr (f2.mono fun _ z => z.elim)).tr f3)
        refine s_equals g3 t1 ?_
        by_cases e1 : w = l
        · rw [if_pos e1]
          refine br_f (by decide) ?_
          have := fin o G1 gFr.rf
          unfold rskS at this
          rw [if_pos e1] at this
          unfold wX2_risk_b65 wX2_risk_b66
          rw [Int32.add_zero]
          exact this
        · rw [if_neg e1]
          refine br_t rfl ⟨hclt g1.1.1.1, s_bdist g1.1 k1 t1 g3 fun o2 G2 f2 => ?_⟩
          have h2 := (g1.f0 (f2 gNo)).1
          have := fin o2 G2 (f2 _)
          unfold rskS at this
          rw [if_neg e1] at this
          obtain ⟨⟨q1, q2, q3⟩, -, -, -, -, -, -, -, p7⟩ := h2
          refine ⟨hclt q1, hlet_i ⟨x 7, q3 7 (by decide), hclt p7.1, vp_in_nI (n := 0) (by rw [p7.2.2.1]; decide) (by rw [p7.2.2.1]; decide), ?_⟩⟩
          rw [show Int32.toNatClampNeg (0 : Int32) = 0 from rfl, p7.2.2.2 0 (by decide)]
          refine br_c (fun z => ?_) (fun z => ?_)
          · rw [if_pos z] at this
            unfold wX2_risk_b65 wX2_risk_b66
            rw [Int32.add_zero]
            exact this
          · rw [if_neg z] at this
            unfold wX2_risk_b66
            rw [show nI k + (1 : Int32) = nI (k + 1) from nI_1 _]
            exact this
theorem s_risk {Q : hG → Int32 → Prop} {t : Nat} (hb : b ≠ 0) (hg : gB c B) (h : pBr o G b a x B) (hk : kS o G) (ht : pW o G t l) (hQ : ∀ o' G', pBr o' G' b a x B → gFr (qM b) o G o' G' → ((∃ v, hR G (x 0) 7 = some v) → gFr (gOnly (0, 10)) o G o' G') → Q G' (nI (rsk B l))) : wX2_risk Q a t G := by
  have hh := h
  obtain ⟨⟨h1, h2, h3⟩, -⟩ := h
  have nb : ∀ i, ¬ gOnly (b, 0) (0, i) := fun i z => hb (congrArg Prod.fst z).symm
  have n10 : ∀ i, ¬ gOnly (0, 10) (b, i) := fun i z => hb (congrArg Prod.fst z)
  unfold wX2_risk
  refine ⟨hclt h1, hlet_i ⟨x 0, h3 0 (by decide), hh.c0, s_biGo 10 (Q := fun G30 z31 => wX2_risk_l15 Q 21 a t (0 : Int32) z31 G30) hh hb fun o1 G1 it g1 g2 g3 => ?_⟩⟩
  refine s_riskL hb 21 (keys B) [] 0 o1 G1 ?_ g1 (hk.fr g2 (nb 0)) (ht.fr g2 (nb 0)) fun o2 G2 f2 => hQ o2 G2 (g1.1.fr f2 n10 (fun z => by cases z)) (g2.q.tr (f2.t0 (by decide)).t) fun z => ((g3 z).mono fun _ z => z.elim).tr f2
  unfold keys
  rw [List.length_map]
  have := hg.1
  omega
end P32
