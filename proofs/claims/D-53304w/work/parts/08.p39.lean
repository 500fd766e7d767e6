/-! ===== plain law 39: takeBack ===== -/
set_option maxRecDepth 100000
section P39
variable {b a : Nat} {x : Nat → Nat} {B : Bk} {l m : Wd} {c : Nat} {o : gO} {G : hG}
/-- the latest correction that stands -/
def ltF (V : List Mt) : Nat → Option Nat
  | 0 => none
  | k + 1 => if (V.getD k d0).2.2 = 1 then ltF V k else some k
def lat (V : List Mt) : Option Nat := ltF V V.length
theorem ltF_lt {V : List Mt} : ∀ {n k : Nat}, ltF V n = some k → k < n
  | 0, k, h => by cases h
  | n + 1, k, h => by
    unfold ltF at h
    split at h
    · have := ltF_lt h
      omega
    · cases h
      exact Nat.lt_succ_self _
def tkA (B : Bk) (k : Nat) (t w : Wd) : Bk := oL B ((bL B).set k (t, w, 1))
def tkB (B : Bk) (t w : Wd) (ban : Bool) : Bk := if ban then B else oB B (kad 24 (bB B) (t, w, 0))
def tkC (B : Bk) (t w : Wd) : Bk := match plc (bP B) t w with
  | none => B
  | some j => oP B ((bP B).eraseIdx j)
def tkb (B : Bk) : Option (Bk × Wd) := match lat (bL B) with
  | none => none
  | some k => if bnd B ((bL B).getD k d0).1 ((bL B).getD k d0).2.1 = false ∧ (bB B).length = 24 then none
    else some (esg (tkC (tkB (tkA B k ((bL B).getD k d0).1 ((bL B).getD k d0).2.1) ((bL B).getD k d0).1 ((bL B).getD k d0).2.1 (bnd B ((bL B).getD k d0).1 ((bL B).getD k d0).2.1)) ((bL B).getD k d0).1 ((bL B).getD k d0).2.1) ((bL B).getD k d0).1, ((bL B).getD k d0).1)
theorem bN_tkC {B : Bk} {t w : Wd} : bN (tkC B t w) = bN B := by
  unfold tkC
  split <;> rfl
theorem bN_tkB {B : Bk} {t w : Wd} {r : Bool} : bN (tkB B t w r) = bN B := by
  unfold tkB
  split <;> rfl
theorem s_tk192 {Q : hG → Option Nat → Prop} {X : Bool → hG → Prop} {y n : Nat} (hb : b ≠ 0) (hg : (bN B).length ≤ 10) (h : pBr o G b a x B) (hy : pM o G y (l, m, n)) (hQ : ∀ o' G' z, pBr o' G' b a x (esg B l) → pW o' G' z l → gFr (qM b) o G o' G' → Q G' (some z)) : wX2_takeBack_b192 Q X a y G := by
  have hy' := hy
  obtain ⟨y1, y2, ⟨ta, y3, y4⟩, -⟩ := hy
  have m0 := qM_0 hb
  unfold wX2_takeBack_b192
  refine ⟨hclt y1, hlet_i ?_⟩
  rw [y3]
  refine ⟨fun z ez => (by cases ez; exact hclt y4.1), ta, rfl, hclt h.1.1, s_estrange hb hg h y4 fun o2 G2 k2 f2 => ?_⟩
  have w2 := y4.fr f2 m0
  have s2 := f2.S y1 y2 m0
  refine ⟨hclt (f2.C y1), hlet_i ?_⟩
  rw [s2.R y3]
  exact ⟨fun z ez => (by cases ez; exact hclt w2.1), hQ o2 G2 ta k2 w2 f2⟩
theorem s_tk146 {Q : hG → Option Nat → Prop} {X : Bool → hG → Prop} {y n : Nat} (hb : b ≠ 0) (hg : (bN B).length ≤ 10) (h : pBr o G b a x B) (hy : pM o G y (l, m, n)) (hQ : ∀ o' G' z, pBr o' G' b a x (esg (tkC B l m) l) → pW o' G' z l → gFr (qM b) o G o' G' → Q G' (some z)) : wX2_takeBack_b146 Q X a y G := by
  have hh := h
  obtain ⟨⟨h1, h2, h3⟩, -, -, p2, -⟩ := h
  have hy' := hy
  obtain ⟨y1, y2, ⟨ta, y3, y4⟩, ⟨oa, y5, y6⟩, -⟩ := hy
  have e2 := p2.mem
  unfold wX2_takeBack_b146
  refine ⟨hclt h1, hlet_i ⟨hclt y1, hlet_i ?_⟩⟩
  rw [y3]
  refine ⟨fun z ez => (by cases ez; exact hclt y4.1), hclt y1, hlet_i ?_⟩
  rw [y5]
  refine ⟨fun z ez => (by cases ez; exact hclt y6.1), x 2, h3 2 (by decide), s_placeOf p2 y4 y6 ?_⟩
  cases e : plc (bP B) l m with
  | none =>
    have e0 : tkC B l m = B := by
      unfold tkC
      rw [e]
    rw [e0] at hQ
    exact br_t rfl (s_tk192 hb hg hh hy' hQ)
  | some k =>
    obtain ⟨kk, k3, k4⟩ := plc_lt e
    obtain ⟨bl, p2l⟩ := p2
    have q2 := pKl.at p2l
    have e0 : tkC B l m = oP B ((bP B).eraseIdx k) := by
      unfold tkC
      rw [e]
    rw [e0] at hQ
    refine br_f (ix_nm (by omega)) ⟨hclt h1, hlet_i ⟨x 2, h3 2 (by decide), hclt e2.2.2, hlet_i ⟨bl, q2.2.1, hclt q2.2.2, s_klrem p2l (on_00 hb) kk fun G3 z k3 k4 k5 => ⟨fun z' ez => (by cases ez; exact k5), ?_⟩⟩⟩⟩
    have b3 : pBr o G3 b a x (oP B ((bP B).eraseIdx k)) := hh.put2 hb k4 k3.kt
    exact s_tk192 (B := oP B ((bP B).eraseIdx k)) hb hg b3 (hy'.fr k4 (on_0 hb)) fun o4 G4 z r1 r2 r3 => hQ o4 G4 z r1 r2 (k4.q.tr r3)
theorem s_tk103 {Q : hG → Option Nat → Prop} {X : Bool → hG → Prop} {y n k : Nat} {r : Bool} (hb : b ≠ 0) (hg : (bN B).length ≤ 10) (h : pBr o G b a x B) (hk : k < (bL B).length) (hy : pM o G y (l, m, n)) (hQ : ∀ o' G' z, pBr o' G' b a x (esg (tkC (tkB (tkA B k l m) l m r) l m) l) → pW o' G' z l → gFr (qM b) o G o' G' → Q G' (some z)) : wX2_takeBack_b103 Q X a (nI k) y (if r then 1 else 0) 1 G := by
  have hh := h
  obtain ⟨⟨h1, h2, h3⟩, -, -, -, -, -, p5, -⟩ := h
  have m5 := p5.mem
  obtain ⟨bl, p5l⟩ := p5
  have q5 := pKl.at p5l
  unfold wX2_takeBack_b103
  refine s_rqS (fun z => absurd z (by decide)) fun _ => ⟨hclt h1, hlet_i ⟨x 5, h3 5 (by decide), hclt q5.1, hlet_i ⟨hclt hy.1, ?_⟩⟩⟩
  rw [q5.2.1]
  refine s_with (n := 1) hy fun q o4 G4 _ q4 f4 => ⟨bl, rfl, hclt ((f4 gNo).C q5.2.2), ?_⟩
  refine s_klset (pKl.fr p5l (f4 gNo) (fun z => z) (fun z => z)) (on_00 hb) hk q4 fun G5 y5 k5 k6 k7 => ⟨fun z ez => (by cases ez; exact k7), ?_⟩
  have b4 := hh.fr (f4 gNo) (fun _ z => z) (fun z => z)
  have b5 : pBr o4 G5 b a x (tkA B k l m) := b4.put5 hb k6 k5.kt
  have y5' := (hy.fr (f4 gNo) (fun z => z)).fr k6 (on_0 hb)
  have c5 := b5.1
  have F5 : gFr (qM b) o G o4 G5 := (f4 _).tr k6.q
  cases r with
  | true =>
    rw [if_pos rfl]
    refine br_f (by decide) ?_
    rw [show tkB (tkA B k l m) l m true = tkA B k l m from rfl] at hQ
    exact s_tk146 (B := tkA B k l m) hb hg b5 y5' fun o6 G6 z r1 r2 r3 => hQ o6 G6 z r1 r2 (F5.tr r3)
  | false =>
    rw [if_neg (by decide)]
    refine br_t rfl ⟨hclt c5.1, hlet_i ⟨hclt y5'.1, ?_⟩⟩
    rw [c5.2.2 3 (by decide)]
    refine s_with (n := 0) y5' fun q o6 G6 _ q6 f6 => ⟨x 3, rfl, ?_⟩
    have b6 := b5.fr (f6 gNo) (fun _ z => z) (fun z => z)
    have p63 := b6.2.2.2.2.1
    refine ⟨hclt p63.mem.2.2, s_kadd p63 (on_00 hb) (by decide) q6 fun o7 G7 k8 k9 => ?_⟩
    have b7 : pBr o7 G7 b a x (tkB (tkA B k l m) l m false) := b6.put3 hb k9 k8
    have y7 := (y5'.fr (f6 gNo) (fun z => z)).fr k9 (on_0 hb)
    exact s_tk146 (B := tkB (tkA B k l m) l m false) hb (by rw [bN_tkB]; exact hg) b7 y7 fun o8 G8 z r1 r2 r3 => hQ o8 G8 z r1 r2 (((F5.tr (f6 _)).tr k9.q).tr r3)
theorem s_btakeBack {Q : hG → Option Nat → Prop} {X : Bool → hG → Prop} (hb : b ≠ 0) (hg : gB c B) (h : pBr o G b a x B) (hX : tkb B = none → X true G) (hQ : ∀ B' w, tkb B = some (B', w) → ∀ o' G' z, pBr o' G' b a x B' → pW o' G' z w → gFr (qM b) o G o' G' → Q G' (some z)) : wX2_takeBack Q X a G := by
  have hh := h
  obtain ⟨⟨h1, h2, h3⟩, -, -, -, p3, -, p5, -⟩ := h
  have m5 := p5.mem
  have m3 := p3.mem
  have hm1 : nI 0 - (1 : Int32) = -1 := by decide
  -- the one found
  have go : ∀ k, k < (bL B).length → lat (bL B) = some k → wX2_takeBack_b38 Q X a (nI k) G := by
    intro k hk hl
    unfold wX2_takeBack_b38
    refine br_f (nI_pos (by omega)) ?_
    unfold wX2_takeBack_b47
    obtain ⟨e, he⟩ : ∃ e, e = (bL B)[k] := ⟨_, rfl⟩
    unfold tkb at hX hQ
    rw [hl] at hX hQ
    have gd : (bL B).getD k d0 = e := by rw [getD_at hk, he]
    refine s_rqS (fun z => absurd z (by decide)) fun _ => ⟨hclt h1, hlet_i ⟨x 5, h3 5 (by decide), hclt m5.2.2, s_kget p5 hk fun y hy => ?_⟩⟩
    rw [← he] at hy
    have hy' : pM o G y (e.1, e.2.1, e.2.2) := hy
    obtain ⟨y1, y2, ⟨ta, y3, y4⟩, ⟨oa, y5, y6⟩, -⟩ := hy
    refine ⟨fun z ez => (by cases ez; exact hclt y1), y, rfl, hclt y1, hlet_i ?_⟩
    rw [y3]
    refine ⟨fun z ez => (by cases ez; exact hclt y4.1), hclt y1, hlet_i ?_⟩
    rw [y5]
    refine ⟨fun z ez => (by cases ez; exact hclt y6.1), ta, rfl, oa, rfl, hclt h1, s_isBanned hh y4 y6 ?_⟩
    have hX' : (if bnd B e.1 e.2.1 = false ∧ (bB B).length = 24 then (none : Option (Bk × Wd)) else some (esg (tkC (tkB (tkA B k e.1 e.2.1) e.1 e.2.1 (bnd B e.1 e.2.1)) e.1 e.2.1) e.1, e.1)) = none → X true G := by
      rw [← gd]
      exact hX
    have hQ' : ∀ B' w, (if bnd B e.1 e.2.1 = false ∧ (bB B).length = 24 then (none : Option (Bk × Wd)) else some (esg (tkC (tkB (tkA B k e.1 e.2.1) e.1 e.2.1 (bnd B e.1 e.2.1)) e.1 e.2.1) e.1, e.1)) = some (B', w) → ∀ o' G' z, pBr o' G' b a x B' → pW o' G' z w → gFr (qM b) o G o' G' → Q G' (some z) := by
      rw [← gd]
      exact hQ
    cases eb : bnd B e.1 e.2.1 with
    | true =>
      rw [eb] at hQ'
      rw [if_pos rfl]
      refine br_f (by decide) ?_
      unfold wX2_takeBack_b98
      exact s_tk103 (r := true) hb hg.2.2.1 hh hk hy' (hQ' _ _ (if_neg (by simp)))
    | false =>
      rw [eb] at hQ' hX'
      rw [if_neg (by decide)]
      refine br_t rfl ⟨hclt h1, hlet_i ⟨x 3, h3 3 (by decide), hclt m3.2.2, s_isFull p3 (fun z => br_f (by decide) ?_) (fun z => br_t rfl ?_)⟩⟩
      · unfold wX2_takeBack_b103
        exact s_rqS (fun _ => hX' (if_pos ⟨rfl, z⟩)) (fun y => absurd rfl y)
      · unfold wX2_takeBack_b98
        exact s_tk103 (r := false) hb hg.2.2.1 hh hk hy' (hQ' _ _ (if_neg (fun y => z y.2)))
  have lp : ∀ (k n : Nat), k < n → k ≤ (bL B).length → ltF (bL B) k = lat (bL B) → wX2_takeBack_l10 Q X n a (nI k - 1) G := by
    intro k
    induction k with
    | zero =>
      intro n hn _ hl
      obtain ⟨n, rfl⟩ : ∃ m, n = m + 1 := ⟨n - 1, by omega⟩
      show wX2_takeBack_b10 Q X _ _ _ _
      unfold wX2_takeBack_b10 wX2_takeBack_b38 wX2_takeBack_b47
      rw [hm1]
      refine br_t (by decide) (br_t (by decide) (s_rqS (fun _ => hX ?_) (fun y => absurd rfl y)))
      unfold tkb
      rw [← hl]
      rfl
    | succ k ih =>
      intro n hn hk hl
      obtain ⟨n, rfl⟩ : ∃ m, n = m + 1 := ⟨n - 1, by omega⟩
      show wX2_takeBack_b10 Q X (wX2_takeBack_l10 Q X n) _ _ _
      unfold wX2_takeBack_b10
      rw [nI_pred]
      have kk : k < (bL B).length := by omega
      unfold ltF at hl
      rw [getD_at kk] at hl
      have n1 := hg.2.2.2.2.2.1 _ (List.getElem_mem kk)
      refine br_f (nI_pos (by omega)) ⟨hclt h1, hlet_i ⟨x 5, h3 5 (by decide), hclt m5.2.2, s_kget p5 kk fun y hy => ⟨fun z ez => (by cases ez; exact hclt hy.1), y, rfl, hclt hy.1, ?_⟩⟩⟩
      rw [hy.2.2.2.2]
      refine br_c (fun z => ?_) (fun z => ?_)
      · have z1 : (bL B)[k].2.2 = 1 := (nI_eq (b := 1) (by omega) (by decide)).mp z
        rw [if_pos z1] at hl
        rw [show nI k + (-1 : Int32) = nI k - 1 by rw [show (-1 : Int32) = -(1 : Int32) from rfl, ← Int32.sub_eq_add_neg]]
        exact ih n (by omega) (by omega) hl
      · rw [if_neg (fun y => z (by rw [y]; rfl))] at hl
        exact go k kk hl.symm
  unfold wX2_takeBack
  refine ⟨hclt h1, hlet_i ⟨x 5, h3 5 (by decide), hclt m5.2.2, s_ksize p5 ⟨(bL B).length + 1, lp _ _ (Nat.lt_succ_self _) (Nat.le_refl _) rfl⟩⟩⟩
end P39
