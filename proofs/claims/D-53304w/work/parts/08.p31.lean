/-! ===== plain law 31: learned, caseOf, countOf ===== -/
set_option maxRecDepth 100000
section P31
variable {b a : Nat} {x : Nat → Nat} {B : Bk} {l : Wd} {c : Nat} {o : gO} {G : hG}
def mayb (B : Bk) (t : Wd) (e : Mt) : Bool := decide (e.1 = t) && (!decide (nI e.2.2 < bE B 1) && (!bnd B t e.2.1 && (decide (e.2.1 ∈ keys B) || decide (e.2.1 ∈ bN B))))
def may (B : Bk) (t : Wd) (e : Mt) : Prop := e.1 = t ∧ ¬ nI e.2.2 < bE B 1 ∧ ¬ bnd B t e.2.1 = true ∧ (e.2.1 ∈ keys B ∨ e.2.1 ∈ bN B)
theorem may_iff {B : Bk} {t : Wd} {e : Mt} : mayb B t e = true ↔ may B t e := by simp [mayb, may]
def bGtb : Option Mt → Mt → Bool
  | none, _ => true
  | some f, e => decide (f.2.2 < e.2.2)
def bGt (f : Option Mt) (e : Mt) : Prop := bGtb f e = true
def lrS (B : Bk) (t : Wd) (best : Option Mt) (e : Mt) : Option Mt := if mayb B t e = true ∧ bGtb best e = true then some e else best
def lrn (B : Bk) (t : Wd) : Option Mt := (bP B).foldl (lrS B t) none
def rBest (o : gO) (G : hG) (r : Option Nat) (e : Option Mt) : Prop := (r = none ∧ e = none) ∨ ∃ y f, r = some y ∧ e = some f ∧ pM o G y f ∧ f.2.2 < 2 ^ 30
theorem pKt.mem {u : Nat × Nat} {k m : Nat} {V : List Mt} (h : pKt o G u k m V) : V.length ≤ m ∧ m ≤ 24 ∧ hC G k = some (3, true) := by
  obtain ⟨_, _, h1, h2, h3, h4, h5, h6, h7, h8⟩ := h
  exact ⟨h8, h7, h1⟩
theorem s_whas {Q : hG → Int32 → Prop} {t : Nat} (h : pBr o G b a x B) (ht : pW o G t l) (h1 : l ∈ keys B → Q G 1) (h0 : l ∉ keys B → Q G 0) : wJ1_containsKey Q (x 0) (some t) G := by
  obtain ⟨-, ⟨E, p1, p2⟩, -⟩ := h
  refine s_mhas p1 ht ?_
  rw [p2.keys]
  show Q G (if l ∈ keys B then 1 else 0)
  by_cases e : l ∈ keys B
  · rw [if_pos e]
    exact h1 e
  · rw [if_neg e]
    exact h0 e
theorem s_nhas2 {Q : hG → Int32 → Prop} {t : Nat} (h : pBr o G b a x B) (ht : pW o G t l) (h1 : l ∈ bN B → Q G 1) (h0 : l ∉ bN B → Q G 0) : wJ4_contains Q (x 1) (some t) G := by
  refine s_nhas h.2.2.1 ht ?_
  by_cases e : l ∈ bN B
  · rw [if_pos e]
    exact h1 e
  · rw [if_neg e]
    exact h0 e
theorem pBr.c0 (h : pBr o G b a x B) : hcl G (x 0) 9 := by
  obtain ⟨-, ⟨E, p1, p2⟩, -⟩ := h
  exact hclt p1.c
theorem s_learned {Q : hG → Option Nat → Prop} {t : Nat} (hg : gB c B) (h : pBr o G b a x B) (ht : pW o G t l) (hQ : ∀ r, rBest o G r (lrn B l) → Q G r) : wX2_learned Q a t G := by
  have hh := h
  obtain ⟨⟨h1, h2, h3⟩, -, p1, p2, -, -, -, -, p7⟩ := h
  obtain ⟨m1, m2, m3⟩ := p2.mem
  have e1 : Int32.toNatClampNeg (1 : Int32) = 1 := rfl
  have key : ∀ (d n k : Nat) (r : Option Nat) (best : Option Mt), d < n → k + d = (bP B).length → rBest o G r best → (∀ r, rBest o G r (((bP B).drop k).foldl (lrS B l) best) → Q G r) → wX2_learned_l4 Q n a t r (nI k) G := by
    intro d
    induction d with
    | zero =>
      intro n k r best hn hk hr hq
      obtain ⟨n, rfl⟩ : ∃ m, n = m + 1 := ⟨n - 1, by omega⟩
      show wX2_learned_b4 Q _ _ _ _ _ _
      unfold wX2_learned_b4
      refine ⟨hclt h1, hlet_i ⟨x 2, h3 2 (by decide), hclt m3, s_ksize p2 (br_t (nI_le (by omega) (by omega)) ?_)⟩⟩
      rw [List.drop_eq_nil_of_le (by omega)] at hq
      exact hq r hr
    | succ d ih =>
      intro n k r best hn hk hr hq
      obtain ⟨n, rfl⟩ : ∃ m, n = m + 1 := ⟨n - 1, by omega⟩
      have k1 : k < (bP B).length := by omega
      rw [List.drop_eq_getElem_cons k1, List.foldl_cons] at hq
      obtain ⟨e, he⟩ : ∃ e, e = (bP B)[k] := ⟨_, rfl⟩
      rw [← he] at hq
      have heb : e.2.2 ≤ 99 := (hg.2.2.2.1 e (by rw [he]; exact List.getElem_mem k1)).2
      -- what follows a decision
      have go : ∀ y, pM o G y e → ∀ s : Int32, ((s = 0 ∧ ¬ may B l e) ∨ (s ≠ 0 ∧ may B l e)) → wX2_learned_b120 Q (wX2_learned_l4 Q n) a t r (nI k) y s G := by
        intro y hy
        have hyR : rBest o G (some y) (some e) := Or.inr ⟨y, e, rfl, rfl, hy, by omega⟩
        have hy2 := hy.2.2.2.2
        by_cases cm : may B l e
        · by_cases cb : bGt best e
          · have es : lrS B l best e = some e := by unfold lrS; exact if_pos ⟨may_iff.mpr cm, cb⟩
            rw [es] at hq
            have hn := ih n (k + 1) (some y) (some e) (by omega) (by omega) hyR hq
            intro s hs
            rcases hs with ⟨-, z⟩ | ⟨hs, -⟩
            · exact absurd cm z
            unfold wX2_learned_b120
            refine br_f hs ?_
            have fin : wX2_learned_b143 Q (wX2_learned_l4 Q n) a t (nI k) y G := by
              unfold wX2_learned_b143 wX2_learned_b149
              rw [show nI k + (1 : Int32) = nI (k + 1) from nI_1 _]
              exact hn
            rcases hr with ⟨r1, r2⟩ | ⟨y3, f, r1, r2, r3, r4⟩
            · rw [r1]
              exact cm_none fin
            · rw [r1]
              refine cm_some ⟨hclt hy.1, hclt r3.1, ?_⟩
              rw [r2] at cb
              have hc : f.2.2 < e.2.2 := of_decide_eq_true cb
              rw [hy2, r3.2.2.2.2]
              refine br_f (fun z => ?_) fin
              have := (nI_leI (by omega) (by omega)).mp z
              omega
          · have es : lrS B l best e = best := by unfold lrS; exact if_neg (fun z => cb z.2)
            rw [es] at hq
            have hn := ih n (k + 1) r best (by omega) (by omega) hr hq
            intro s hs
            rcases hs with ⟨-, z⟩ | ⟨hs, -⟩
            · exact absurd cm z
            unfold wX2_learned_b120
            refine br_f hs ?_
            rcases hr with ⟨r1, r2⟩ | ⟨y3, f, r1, r2, r3, r4⟩
            · rw [r2] at cb
              exact absurd rfl cb
            · rw [r1]
              refine cm_some ⟨hclt hy.1, hclt r3.1, ?_⟩
              rw [r2] at cb
              have hc : ¬ f.2.2 < e.2.2 := fun z => cb (decide_eq_true z)
              rw [hy2, r3.2.2.2.2]
              refine br_t ((nI_leI (by omega) (by omega)).mpr (by omega)) ?_
              unfold wX2_learned_b148 wX2_learned_b149
              rw [show nI k + (1 : Int32) = nI (k + 1) from nI_1 _, ← r1]
              exact hn
        · have es : lrS B l best e = best := by unfold lrS; exact if_neg (fun z => cm (may_iff.mp z.1))
          rw [es] at hq
          have hn := ih n (k + 1) r best (by omega) (by omega) hr hq
          intro s hs
          rcases hs with ⟨hs, -⟩ | ⟨-, z⟩
          · unfold wX2_learned_b120
            refine br_t hs ?_
            unfold wX2_learned_b148 wX2_learned_b149
            rw [show nI k + (1 : Int32) = nI (k + 1) from nI_1 _]
            exact hn
          · exact absurd z cm
      have h148 : ∀ y, pM o G y e → ¬ may B l e → wX2_learned_b119 Q (wX2_learned_l4 Q n) a t r (nI k) y G := fun y hy z => by
        unfold wX2_learned_b119
        exact go y hy 0 (Or.inl ⟨rfl, z⟩)
      have h77 : ∀ y, pM o G y e → ¬ may B l e → wX2_learned_b77 Q (wX2_learned_l4 Q n) a t r (nI k) y G := fun y hy z => by
        unfold wX2_learned_b77 wX2_learned_b78
        exact br_t rfl (h148 y hy z)
      show wX2_learned_b4 Q (wX2_learned_l4 Q n) _ _ _ _ _
      unfold wX2_learned_b4
      refine ⟨hclt h1, hlet_i ⟨x 2, h3 2 (by decide), hclt m3, s_ksize p2 (br_f (nI_ge k1 (by omega)) ⟨hclt h1, hlet_i ⟨x 2, h3 2 (by decide), hclt m3, s_kget p2 k1 fun y hy => ?_⟩⟩)⟩⟩
      rw [← he] at hy
      have hy' := hy
      obtain ⟨y1, y2, ⟨ta, y3, y4⟩, ⟨oa, y5, y6⟩, y7⟩ := hy'
      refine ⟨fun z ez => by cases ez; exact hclt y1, y, rfl, hclt y1, hlet_i ?_⟩
      rw [y3]
      refine ⟨fun z ez => by cases ez; exact hclt y4.1, ta, rfl, hclt y4.1, s_equals y4 ht ?_⟩
      by_cases et : e.1 = l
      · rw [if_pos et]
        refine br_f (by decide) ⟨hclt y1, hclt h1, hlet_i ⟨x 7, h3 7 (by decide), hclt p7.1, vp_in_nI (n := 1) (by rw [p7.2.2.1]; decide) (by rw [p7.2.2.1]; decide), ?_⟩⟩
        rw [e1, p7.2.2.2 1 (by decide), y7]
        refine br_c (fun z => h77 y hy (fun w => w.2.1 z)) (fun z => ⟨hclt y1, hlet_i ?_⟩)
        rw [y5]
        refine ⟨fun z ez => by cases ez; exact hclt y6.1, oa, rfl, hclt h1, s_isBanned hh ht y6 ?_⟩
        by_cases eb : bnd B l e.2.1 = true
        · rw [if_pos eb]
          exact br_f (by decide) (h77 y hy (fun w => w.2.2.1 eb))
        · rw [if_neg eb]
          refine br_t rfl ?_
          unfold wX2_learned_b78
          refine br_f (by decide) ⟨hclt h1, hlet_i ⟨hclt y1, hlet_i ⟨x 0, h3 0 (by decide), hh.c0, ?_⟩⟩⟩
          rw [y5]
          refine s_whas hh y6 (fun w => br_f (by decide) ?_) (fun w => br_t rfl ⟨hclt h1, hlet_i ⟨hclt y1, hlet_i ⟨x 1, h3 1 (by decide), hclt p1.1, ?_⟩⟩⟩)
          · unfold wX2_learned_b115
            exact go y hy 1 (Or.inr ⟨by decide, et, z, eb, Or.inl w⟩)
          · rw [y5]
            refine s_nhas2 hh y6 (fun v => br_f (by decide) ?_) (fun v => br_t rfl ?_)
            · unfold wX2_learned_b115
              exact go y hy 1 (Or.inr ⟨by decide, et, z, eb, Or.inr v⟩)
            · exact h148 y hy fun q => by
                rcases q.2.2.2 with q | q
                · exact w q
                · exact v q
      · rw [if_neg et]
        exact br_t rfl (h77 y hy (fun w => et w.1))
  exact ⟨_, key (bP B).length _ 0 none none (Nat.lt_succ_self _) (by omega) (Or.inl ⟨rfl, rfl⟩) hQ⟩
/-- what becomes of a typed word -/
def cse (B : Bk) (t : Wd) : Nat := if t ∈ keys B then 0 else if t ∈ bN B then 1 else if (lrn B t).isSome then 2 else if sgT B t = [] then 4 else 3
theorem s_bcaseOf {Q : hG → Int32 → Prop} {t : Nat} (hb : b ≠ 0) (hg : gB c B) (h : pBr o G b a x B) (hk : kS o G) (ht : pW o G t l) (hQ : ∀ o' G', pBr o' G' b a x B → gFr (qM b) o G o' G' → Q G' (nI (cse B l))) : wX2_caseOf Q a t G := by
  have hh := h
  obtain ⟨⟨h1, h2, h3⟩, -, p1, -⟩ := h
  unfold wX2_caseOf
  refine ⟨hclt h1, hlet_i ⟨x 0, h3 0 (by decide), hh.c0, s_whas hh ht (fun w => br_f (by decide) ?_) (fun w => br_t rfl ⟨hclt h1, hlet_i ⟨x 1, h3 1 (by decide), hclt p1.1, s_nhas2 hh ht (fun v => br_f (by decide) ?_) (fun v => br_t rfl ⟨hclt h1, s_learned hg hh ht fun r hr => ?_⟩)⟩⟩)⟩⟩
  · have := hQ o G hh gFr.rf
    unfold cse at this
    rw [if_pos w] at this
    exact this
  · have := hQ o G hh gFr.rf
    unfold cse at this
    rw [if_neg w, if_pos v] at this
    exact this
  · rcases hr with ⟨r1, r2⟩ | ⟨y, f, r1, r2, r3, r4⟩
    · rw [r1]
      refine cm_none ⟨hclt h1, s_suggestions hb hg hh hk ht fun o' G' q g1 g2 g3 => ⟨q, rfl, hclt g2.cl, s_qempty g2 ?_⟩⟩
      have := hQ o' G' g1 g3
      unfold cse at this
      rw [if_neg w, if_neg v, r2, if_neg (by decide)] at this
      unfold wX2_caseOf_b52
      by_cases e : sgT B l = []
      · rw [if_pos e] at this ⊢
        exact br_f (by decide) this
      · rw [if_neg e] at this ⊢
        exact br_t rfl this
    · rw [r1]
      refine cm_some ?_
      have := hQ o G hh gFr.rf
      unfold cse at this
      rw [if_neg w, if_neg v, r2, if_pos (show (some f).isSome = true from rfl)] at this
      exact this
theorem s_countOf {Q : hG → Int32 → Prop} {t : Nat} (h : pBr o G b a x B) (ht : pW o G t l) (hQ : Q G (nI (cnt B l))) : wX2_countOf Q a t G := by
  have hh := h
  obtain ⟨⟨h1, h2, h3⟩, -⟩ := h
  unfold wX2_countOf wX2_countOf_b24
  refine ⟨hclt h1, hlet_i ⟨x 0, h3 0 (by decide), hh.c0, s_wget hh ht (fun z => ⟨fun y hy => (by cases hy), cm_none ?_⟩) (fun y z hy => ⟨fun y' hy' => (by cases hy'; exact hy.cl), cm_some ⟨hy.cl, ?_⟩⟩)⟩⟩
  · unfold cnt at hQ
    rw [lkA_none (fun e he c => z (by rw [← c]; exact List.mem_map_of_mem he))] at hQ
    exact hQ
  · unfold wJ20_intValue
    have hc := hy.cl
    obtain ⟨bb, z1, z2, z3⟩ := hy
    refine ⟨hc, ?_⟩
    rw [z3]
    exact hQ
end P31
