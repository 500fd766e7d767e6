/-! ===== plain law 33: riskiest, bestDropping ===== -/
set_option maxRecDepth 100000
section P33
variable {b a : Nat} {x : Nat → Nat} {B : Bk} {l m : Wd} {c : Nat} {o : gO} {G : hG}
def rsS (B : Bk) (p : Int64 × Int32) (w : Wd) : Int64 × Int32 := (if nI (rsk B w) ≤ p.2 then p.1 else cd w, hMx p.2 (nI (rsk B w)))
def rst (B : Bk) : Int64 := ((keys B).foldl (rsS B) (-1, -1)).1
theorem s_rstL {Q : hG → Int64 → Prop} {it : Nat} (hb : b ≠ 0) (hg : gB c B) : ∀ (n : Nat) (K2 K1 : List Wd) (p : Int64 × Int32) (o : gO) (G : hG), K2.length < n → pBi o G b a x B 9 K1 K2 it → kS o G → (∀ o' G', pBr o' G' b a x B → gFr tM o G o' G' → Q G' (K2.foldl (rsS B) p).1) → wX2_riskiest_l20 Q n a p.1 p.2 (some it) G := by
  intro n
  induction n with
  | zero =>
    intro K2 K1 p o G hn
    omega
  | succ n ih =>
    intro K2 K1 p o G hn h hk hQ
    show wX2_riskiest_b20 Q (wX2_riskiest_l20 Q n) _ _ _ _ _
    unfold wX2_riskiest_b20
    refine ⟨it, rfl, hclt h.ic, s_biHas h (fun e => br_t rfl ?_) (fun e => br_f (by decide) ⟨hclt h.ic, ?_⟩)⟩
    · rw [e] at hQ
      exact hQ o G h.1 gFr.rf
    · cases K2 with
      | nil => exact absurd rfl e
      | cons w K2 =>
        have n0 : ¬ gOnly (0, 9) (0, 0) := fun z => by cases z
        have m0 : ¬ gOnly (0, 10) (0, 0) := fun z => by cases z
        refine s_biNext (by decide) h hb fun G1 y g1 g2 g3 => ⟨fun y' ey => (by cases ey; exact hclt g3.1), y, rfl, hclt g1.1.1.1, ?_⟩
        have k1 := hk.fr g2 n0
        rw [List.foldl_cons] at hQ
        refine s_risk hb hg g1.1 k1 g3 fun o2 G2 q1 q2 q3 => ?_
        have f2 := q3 g1.2.1
        have h2 := g1.fr f2 (fun i z => hb (congrArg Prod.fst z)) (fun z => by cases z) m0
        have y2 := g3.fr f2 m0
        have := ih K2 (K1 ++ [w]) (rsS B p w) o2 G2 (by rw [List.length_cons] at hn; omega) h2 (k1.fr f2 m0) fun o3 G3 r1 r2 => hQ o3 G3 r1 (((g2.t0 (by decide)).tr (f2.t0 (by decide))).tr r2)
        unfold rsS at this
        unfold wX2_riskiest_b65
        refine br_c (fun z => ?_) (fun z => ⟨hclt y2.1, ?_⟩)
        · rw [if_pos z] at this
          exact this
        · rw [if_neg z] at this
          rw [y2.2.2.1]
          exact this
theorem s_riskiest {Q : hG → Int64 → Prop} (hb : b ≠ 0) (hg : gB c B) (h : pBr o G b a x B) (hk : kS o G) (hQ : ∀ o' G', pBr o' G' b a x B → gFr (qM b) o G o' G' → Q G' (rst B)) : wX2_riskiest Q a G := by
  have hh := h
  obtain ⟨⟨h1, h2, h3⟩, -⟩ := h
  have nb : ∀ i, ¬ gOnly (b, 0) (0, i) := fun i z => hb (congrArg Prod.fst z).symm
  unfold wX2_riskiest
  refine ⟨hclt h1, hlet_i ⟨x 0, h3 0 (by decide), hh.c0, s_biGo 9 (Q := fun G30 z31 => wX2_riskiest_l20 Q 21 a (-1 : Int64) (-1 : Int32) z31 G30) hh hb fun o1 G1 it g1 g2 g3 => ?_⟩⟩
  refine s_rstL hb hg 21 (keys B) [] (-1, -1) o1 G1 ?_ g1 (hk.fr g2 (nb 0)) fun o2 G2 f1 f2 => hQ o2 G2 f1 (g2.q.tr f2.t)
  unfold keys
  rw [List.length_map]
  have := hg.1
  omega
def upS (f : Nat → Int32) (i : Nat) (v : Int32) : Nat → Int32 := fun k => if k = i then v else f k
def bdS (B : Bk) (t w : Wd) (p : Int32 × Int32) (i : Nat) : Int32 × Int32 := (if p.2 ≤ nI (dist (upS (bK B) i 1) t w) then p.1 else nI i, hMn p.2 (nI (dist (upS (bK B) i 1) t w)))
def bdr (B : Bk) (t w : Wd) : Int32 := 100 * ((List.range 26).foldl (bdS B t w) (0, 2147483647)).1 + ((List.range 26).foldl (bdS B t w) (0, 2147483647)).2
theorem bK_mk {B : Bk} {V : Nat → Int32} : bK (bW B, bN B, bP B, bB B, bS B, bL B, V, bE B) = V := rfl
theorem Bk_eta {B : Bk} : (bW B, bN B, bP B, bB B, bS B, bL B, bK B, bE B) = B := rfl
theorem s_bdL {Q : hG → Int32 → Prop} {t v : Nat} (hb : b ≠ 0) : ∀ (n i : Nat) (p : Int32 × Int32) (o : gO) (G : hG), i + n = 26 → pBr o G b a x B → kS o G → pW o G t l → pW o G v m → (∀ o' G', pBr o' G' b a x B → gFr (gOnly (b, 6)) o G o' G' → Q G' (100 * ((List.range' i n).foldl (bdS B l m) p).1 + ((List.range' i n).foldl (bdS B l m) p).2)) → wX2_bestDropping_l10 Q (n + 1) a t v p.1 p.2 (nI i) G := by
  intro n
  induction n with
  | zero =>
    intro i p o G hi h hk ht hv hQ
    show wX2_bestDropping_b10 Q _ _ _ _ _ _ _ _
    unfold wX2_bestDropping_b10
    exact br_t ((nI_leI (a := 26) (by omega) (by omega)).mpr (by omega)) (hQ o G h gFr.rf)
  | succ n ih =>
    intro i p o G hi h hk ht hv hQ
    show wX2_bestDropping_b10 Q (wX2_bestDropping_l10 Q (n + 1)) _ _ _ _ _ _ _
    unfold wX2_bestDropping_b10
    have hh := h
    obtain ⟨⟨h1, h2, h3⟩, -, -, -, -, -, -, p6, -⟩ := h
    have n0 : ¬ gOnly (b, 6) (0, 0) := on_0 hb
    refine br_f (fun z => by have := (nI_leI (a := 26) (by omega) (by omega)).mp z; omega) ⟨hclt h1, hlet_i ⟨x 6, h3 6 (by decide), hclt p6.1, vp_in_nI (by rw [p6.2.2.1]; omega) (by rw [p6.2.2.1]; decide), hclt h1, hlet_i ⟨x 6, h3 6 (by decide), p6.1, vp_in_nI (by rw [p6.2.2.1]; omega) (by rw [p6.2.2.1]; decide), hlet_i ?_⟩⟩⟩
    rw [nI_clamp (by omega), p6.2.2.2 i (by omega)]
    have f1 : gFr (gOnly (b, 6)) o G o (hsI G (x 6) i 1) := gFr.rf.sI (Or.inr p6.2.1)
    have q6 : pIA o (hsI G (x 6) i 1) (b, 6) (x 6) 26 (upS (bK B) i 1) := ⟨p6.1, p6.2.1, p6.2.2.1, fun k hk => by
      rw [hI_sI]
      unfold upS
      by_cases e : k = i
      · rw [if_pos ⟨rfl, e⟩, if_pos e]
      · rw [if_neg (fun z => e z.2), if_neg e]
        exact p6.2.2.2 k hk⟩
    have b1 := hh.put6 hb f1 q6
    refine ⟨hclt b1.1.1, s_bdist b1 (hk.fr f1 n0) (ht.fr f1 n0) (hv.fr f1 n0) fun o2 G2 f2 => ?_⟩
    rw [bK_mk]
    have b2 := b1.fr (f2 gNo) (fun _ z => z) (fun z => z)
    have r6 := b2.2.2.2.2.2.2.2.1
    refine ⟨hclt b2.1.1, hlet_i ⟨x 6, b2.1.2.2 6 (by decide), r6.1, vp_in_nI (by rw [r6.2.2.1]; omega) (by rw [r6.2.2.1]; decide), ?_⟩⟩
    refine hlet_e fun G3 e3 => ?_
    have f3 : gFr (gOnly (b, 6)) o2 G2 o2 G3 := by
      rw [e3]
      exact gFr.rf.sI (Or.inr r6.2.1)
    have s6 : pIA o2 G3 (b, 6) (x 6) 26 (bK B) := ⟨f3.C r6.1, r6.2.1, by rw [e3]; exact r6.2.2.1, fun k hk => by
      rw [e3, hI_sI]
      by_cases e : k = i
      · rw [if_pos ⟨rfl, e⟩, e]
      · rw [if_neg (fun z => e z.2)]
        have := r6.2.2.2 k hk
        rw [bK_mk] at this
        unfold upS at this
        rw [if_neg e] at this
        exact this⟩
    have b3 : pBr o2 G3 b a x B := b2.put6 hb f3 s6
    have fA : gFr (gOnly (b, 6)) o G o2 G3 := (f1.tr (f2 _)).tr f3
    rw [show List.range' i (n + 1) = i :: List.range' (i + 1) n from rfl, List.foldl_cons] at hQ
    have := ih (i + 1) (bdS B l m p i) o2 G3 (by omega) b3 (hk.fr fA n0) (ht.fr fA n0) (hv.fr fA n0) fun o4 G4 c1 c2 => hQ o4 G4 c1 (fA.tr c2)
    unfold bdS at this
    unfold wX2_bestDropping_b64
    rw [show nI i + (1 : Int32) = nI (i + 1) from nI_1 _]
    refine br_c (fun z => ?_) (fun z => ?_)
    · rw [if_pos z] at this
      exact this
    · rw [if_neg z] at this
      exact this
theorem s_bestDropping {Q : hG → Int32 → Prop} {t v : Nat} (hb : b ≠ 0) (h : pBr o G b a x B) (hk : kS o G) (ht : pW o G t l) (hv : pW o G v m) (hQ : ∀ o' G', pBr o' G' b a x B → gFr (qM b) o G o' G' → Q G' (bdr B l m)) : wX2_bestDropping Q a t v G := by
  unfold wX2_bestDropping
  refine s_bdL hb 26 0 (0, 2147483647) o G rfl h hk ht hv fun o' G' g1 g2 => ?_
  have := hQ o' G' g1 g2.q
  unfold bdr at this
  rw [List.range_eq_range'] at this
  exact this
end P33
