/-! ===== plain law 34: values of a book ===== -/
set_option maxRecDepth 100000
section P34
variable {b a : Nat} {x : Nat → Nat} {B : Bk} {l m : Wd} {c : Nat} {o : gO} {G : hG}
/-- an iterator over keys -/
def pKi (o : gO) (G : hG) (u : Nat × Nat) (t j : Nat) (K2 : List Wd) (it : Nat) : Prop := ∃ E1 E2, pIM o G u t E1 E2 it (0, j) 11 ∧ E2.map Prod.fst = K2
section KI
variable {u : Nat × Nat} {t j it : Nat} {K2 : List Wd}
theorem pKi.fr {M : Nat × Nat → Prop} {o' : gO} {G' : hG} (h : pKi o G u t j K2 it) (hf : gFr M o G o' G') (hu : ¬ M u) (hw : ¬ M (0, j)) (h0 : ¬ M (0, 0)) : pKi o' G' u t j K2 it := by
  obtain ⟨E1, E2, h2, h3⟩ := h
  exact ⟨E1, E2, h2.fr hf hu hw h0, h3⟩
theorem pKi.ic (h : pKi o G u t j K2 it) : hC G it = some (11, true) := by
  obtain ⟨E1, E2, h2, h3⟩ := h
  exact h2.ic
theorem s_kiHas {Q : hG → Int32 → Prop} (h : pKi o G u t j K2 it) (h0 : K2 = [] → Q G 0) (h1 : K2 ≠ [] → Q G 1) : wJ15_hasNext_c11 Q it G := by
  obtain ⟨E1, E2, h2, h4⟩ := h
  refine s_hasN11 h2 (fun z => h0 (by rw [← h4, z]; rfl)) (fun z => h1 fun y => z ?_)
  rw [← h4] at y
  exact List.map_eq_nil_iff.mp y
theorem s_kiNext {Q : hG → Option Nat → Prop} {w : Wd} (hj : (0, j) ≠ u) (hj0 : j ≠ 0) (h : pKi o G u t j (w :: K2) it) (hQ : ∀ G' y, pKi o G' u t j K2 it → gFr (gOnly (0, j)) o G o G' → pW o G' y w → Q G' (some y)) : wJ17_next Q it G := by
  obtain ⟨E1, E2, h2, h4⟩ := h
  cases E2 with
  | nil => cases h4
  | cons e E2 =>
    rw [List.map_cons] at h4
    injection h4 with h4 h6
    refine s_next11 h2 hj (fun z => hj0 (congrArg Prod.snd z)) fun G' y g1 g2 g3 => ?_
    exact hQ G' y ⟨E1 ++ [e], E2, g1, h6⟩ g2 (by rw [← h4]; exact g3)
end KI
theorem pBi.ki {j : Nat} {K1 K2 : List Wd} {it : Nat} (h : pBi o G b a x B j K1 K2 it) : pKi o G (b, 0) (x 0) j K2 it := by
  obtain ⟨-, -, E1, E2, h1, h2, h3, h4⟩ := h
  exact ⟨E1, E2, h1, h3⟩
/-- words.keySet() -/
theorem s_wks {Q : hG → Option Nat → Prop} (h : pBr o G b a x B) (hb : b ≠ 0) (hQ : ∀ o' G' y, pBr o' G' b a x B → pVc o' G' y (x 0) 14 → gFr (gOnly (b, 0)) o G o' G' → Q G' (some y)) : wJ1_keySet Q (x 0) G := by
  have hh := h
  obtain ⟨h8, ⟨E, p1, p2⟩, h9⟩ := h
  unfold wJ1_keySet
  refine ⟨hclt p1.c, s_navKS2 p1 (on_00 hb) fun o1 G1 q g1 g2 g3 g4 g5 => hQ o1 G1 q ?_ g2 g3⟩
  exact hh.put0 (V := bW B) hb g3 ⟨E, g1, vInt.fr g3 (on_0 hb) p2⟩
theorem s_wksIt {Q : hG → Option Nat → Prop} {y : Nat} (j : Nat) (h : pBr o G b a x B) (hy : pVc o G y (x 0) 14) (hQ : ∀ o' G' it, pKi o' G' (b, 0) (x 0) j (keys B) it → (∀ M, gFr M o G o' G') → Q G' (some it)) : wJ18_iterator Q y G := by
  obtain ⟨h8, ⟨E, p1, p2⟩, h9⟩ := h
  refine s_ksIt p1 hy (0, j) fun o2 G2 it _ k1 k2 => hQ o2 G2 it ⟨[], E, k1, ?_⟩ k2
  exact p2.keys
/-- names.iterator() -/
theorem s_nmIt {Q : hG → Option Nat → Prop} (j : Nat) (h : pBr o G b a x B) (hb : b ≠ 0) (hQ : ∀ o' G' t it, pBr o' G' b a x B → pKi o' G' (b, 1) t j (bN B) it → gFr (gOnly (b, 1)) o G o' G' → Q G' (some it)) : wJ4_iterator Q (x 1) G := by
  refine s_nIt h.2.2.1 (on_00 hb) (0, j) fun o1 G1 o2 G2 it t g1 g2 g3 _ g4 g5 => hQ o2 G2 t it ?_ ⟨[], _, g4, eNs_fst⟩ (g2.tr (g5 _))
  exact (h.put1 (V := bN B) hb g2 g1).fr (g5 gNo) (fun _ z => z) (fun z => z)
def lstA (L : List Wd) (i : Nat) : Int64 := match L[i]? with
  | none => -1
  | some w => cd w
theorem s_lKSL {Q : hG → Int64 → Prop} {u : Nat × Nat} {t it : Nat} (hj : (0, 9) ≠ u) : ∀ (n : Nat) (K2 : List Wd) (r : Nat) (G : hG), K2.length < n → r < 2 ^ 31 → pKi o G u t 9 K2 it → (∀ G', gFr tM o G o G' → Q G' (lstA K2 r)) → wX2_listed_KS_l10 Q n (nI r) (some it) G := by
  intro n
  induction n with
  | zero =>
    intro K2 r G hn
    omega
  | succ n ih =>
    intro K2 r G hn hr h hQ
    show wX2_listed_KS_b10 Q (wX2_listed_KS_l10 Q n) _ _ _
    unfold wX2_listed_KS_b10
    refine ⟨it, rfl, hclt h.ic, s_kiHas h (fun e => br_t rfl ?_) (fun e => br_f (by decide) ⟨hclt h.ic, ?_⟩)⟩
    · rw [e] at hQ
      exact hQ G gFr.rf
    · cases K2 with
      | nil => exact absurd rfl e
      | cons w K2 =>
        refine s_kiNext hj (by decide) h fun G1 y g1 g2 g3 => ⟨fun y' ey => (by cases ey; exact hclt g3.1), br_c (fun z => ⟨y, rfl, hclt g3.1, ?_⟩) (fun z => ?_)⟩
        · have z0 := (nI_e0 hr).mp z
          rw [g3.2.2.1]
          rw [z0] at hQ
          exact hQ G1 (g2.t0 (by decide))
        · have z0 : r ≠ 0 := fun y => z (by rw [y]; rfl)
          rw [show nI r + (-1 : Int32) = nI (r - 1) by rw [show (-1 : Int32) = -(1 : Int32) from rfl, ← Int32.sub_eq_add_neg, show (1 : Int32) = nI 1 from rfl, nI_sub (by omega)]]
          refine ih K2 (r - 1) G1 (by rw [List.length_cons] at hn; omega) (by omega) g1 fun G' f => ?_
          have := hQ G' ((g2.t0 (by decide)).tr f)
          unfold lstA at this ⊢
          rw [show r = (r - 1) + 1 by omega, List.getElem?_cons_succ] at this
          exact this
theorem s_lTSL {Q : hG → Int64 → Prop} {u : Nat × Nat} {t it : Nat} (hj : (0, 9) ≠ u) : ∀ (n : Nat) (K2 : List Wd) (r : Nat) (G : hG), K2.length < n → r < 2 ^ 31 → pKi o G u t 9 K2 it → (∀ G', gFr tM o G o G' → Q G' (lstA K2 r)) → wX2_listed_TS_l10 Q n (nI r) (some it) G := by
  intro n
  induction n with
  | zero =>
    intro K2 r G hn
    omega
  | succ n ih =>
    intro K2 r G hn hr h hQ
    show wX2_listed_TS_b10 Q (wX2_listed_TS_l10 Q n) _ _ _
    unfold wX2_listed_TS_b10
    refine ⟨it, rfl, hclt h.ic, s_kiHas h (fun e => br_t rfl ?_) (fun e => br_f (by decide) ⟨hclt h.ic, ?_⟩)⟩
    · rw [e] at hQ
      exact hQ G gFr.rf
    · cases K2 with
      | nil => exact absurd rfl e
      | cons w K2 =>
        refine s_kiNext hj (by decide) h fun G1 y g1 g2 g3 => ⟨fun y' ey => (by cases ey; exact hclt g3.1), br_c (fun z => ⟨y, rfl, hclt g3.1, ?_⟩) (fun z => ?_)⟩
        · have z0 := (nI_e0 hr).mp z
          rw [g3.2.2.1]
          rw [z0] at hQ
          exact hQ G1 (g2.t0 (by decide))
        · have z0 : r ≠ 0 := fun y => z (by rw [y]; rfl)
          rw [show nI r + (-1 : Int32) = nI (r - 1) by rw [show (-1 : Int32) = -(1 : Int32) from rfl, ← Int32.sub_eq_add_neg, show (1 : Int32) = nI 1 from rfl, nI_sub (by omega)]]
          refine ih K2 (r - 1) G1 (by rw [List.length_cons] at hn; omega) (by omega) g1 fun G' f => ?_
          have := hQ G' ((g2.t0 (by decide)).tr f)
          unfold lstA at this ⊢
          rw [show r = (r - 1) + 1 by omega, List.getElem?_cons_succ] at this
          exact this
theorem s_listedKS {Q : hG → Int64 → Prop} {y r v0 : Nat} (hr : r < 2 ^ 31) (hb : b ≠ 0) (h : pBr o G b a x B) (hy : pVc o G y (x 0) 14) (hQ : ∀ o' G', pBr o' G' b a x B → gFr tM o G o' G' → Q G' (lstA (keys B) r)) : wX2_listed_KS Q v0 (some y) (nI r) G := by
  unfold wX2_listed_KS
  refine ⟨y, rfl, hclt hy.1, s_wksIt 9 h hy fun o1 G1 it g1 g2 => ⟨(keys B).length + 1, ?_⟩⟩
  refine s_lKSL (fun z => hb (congrArg Prod.fst z).symm) _ (keys B) r G1 (Nat.lt_succ_self _) hr g1 fun G' f => ?_
  have f2 : gFr tM o G o1 G' := (g2 _).tr f
  exact hQ o1 G' (h.ft hb f2) f2
theorem s_listedTS {Q : hG → Int64 → Prop} {r v0 : Nat} (hr : r < 2 ^ 31) (hb : b ≠ 0) (h : pBr o G b a x B) (hQ : ∀ o' G', pBr o' G' b a x B → gFr (qM b) o G o' G' → Q G' (lstA (bN B) r)) : wX2_listed_TS Q v0 (some (x 1)) (nI r) G := by
  unfold wX2_listed_TS
  refine ⟨x 1, rfl, hclt h.2.2.1.1, s_nmIt 9 h hb fun o1 G1 t it g1 g2 g3 => ⟨(bN B).length + 1, ?_⟩⟩
  refine s_lTSL (fun z => hb (congrArg Prod.fst z).symm) _ (bN B) r G1 (Nat.lt_succ_self _) hr g2 fun G' f => ?_
  exact hQ o1 G' (g1.ft hb f) (g3.q.tr f.t)
/-! the place of a word -/
def wpF (w : Wd) : List Wd → Nat → Option Nat
  | [], _ => none
  | y :: K, k => if y = w then some k else wpF w K (k + 1)
theorem s_wpL {Q : hG → Int32 → Prop} {u : Nat × Nat} {t it v : Nat} (hj : (0, 10) ≠ u) : ∀ (n : Nat) (K2 : List Wd) (r : Nat) (G : hG), K2.length < n → pW o G v l → pKi o G u t 10 K2 it → (∀ G', gFr (gOnly (0, 10)) o G o G' → Q G' (ix (wpF l K2 r))) → wX2_placeInOrder_l15 Q n v (nI r) (some it) G := by
  intro n
  induction n with
  | zero =>
    intro K2 r G hn
    omega
  | succ n ih =>
    intro K2 r G hn hv h hQ
    show wX2_placeInOrder_b15 Q (wX2_placeInOrder_l15 Q n) _ _ _ _
    unfold wX2_placeInOrder_b15
    refine ⟨it, rfl, hclt h.ic, s_kiHas h (fun e => br_t rfl ?_) (fun e => br_f (by decide) ⟨hclt h.ic, ?_⟩)⟩
    · rw [e] at hQ
      exact hQ G gFr.rf
    · cases K2 with
      | nil => exact absurd rfl e
      | cons w K2 =>
        refine s_kiNext hj (by decide) h fun G1 y g1 g2 g3 => ⟨fun y' ey => (by cases ey; exact hclt g3.1), y, rfl, hclt g3.1, ?_⟩
        have v1 := hv.fr g2 (fun z => by cases z)
        refine s_equals g3 v1 ?_
        unfold wpF at hQ
        by_cases e : w = l
        · rw [if_pos e]
          rw [if_pos e] at hQ
          exact br_f (by decide) (hQ G1 g2)
        · rw [if_neg e]
          rw [if_neg e] at hQ
          refine br_t rfl ?_
          rw [show nI r + (1 : Int32) = nI (r + 1) from nI_1 _]
          exact ih K2 (r + 1) G1 (by rw [List.length_cons] at hn; omega) v1 g1 fun G' f => hQ G' (g2.tr f)
theorem s_placeIO {Q : hG → Int32 → Prop} {v : Nat} (hb : b ≠ 0) (h : pBr o G b a x B) (hv : pW o G v l) (hQ : ∀ o' G', pBr o' G' b a x B → gFr (qM b) o G o' G' → ((∃ v, hR G (x 0) 7 = some v) → gFr (gOnly (0, 10)) o G o' G') → Q G' (ix (wpF l (keys B) 0))) : wX2_placeInOrder Q a v G := by
  have hh := h
  obtain ⟨⟨h1, h2, h3⟩, -⟩ := h
  have nb : ∀ i, ¬ gOnly (b, 0) (0, i) := fun i z => hb (congrArg Prod.fst z).symm
  have n10 : ∀ i, ¬ gOnly (0, 10) (b, i) := fun i z => hb (congrArg Prod.fst z)
  unfold wX2_placeInOrder
  refine ⟨hclt h1, hlet_i ⟨x 0, h3 0 (by decide), hh.c0, s_biGo 10 (Q := fun G30 z31 => ∃ n, wX2_placeInOrder_l15 Q n v (0 : Int32) z31 G30) hh hb fun o1 G1 it g1 g2 g3 => ⟨(keys B).length + 1, ?_⟩⟩⟩
  exact s_wpL (fun z => hb (congrArg Prod.fst z).symm) _ (keys B) 0 G1 (Nat.lt_succ_self _) (hv.fr g2 (nb 0)) g1.ki fun G2 f2 => hQ o1 G2 (g1.1.fr f2 n10 (fun z => by cases z)) (g2.q.tr (f2.t0 (by decide)).t) fun z => ((g3 z).mono fun _ z => z.elim).tr f2
/-! lists of pairs -/
def ctS (t : Wd) (n : Nat) (e : Mt) : Nat := if e.1 = t then n + 1 else n
def ctT (V : List Mt) (t : Wd) : Nat := V.foldl (ctS t) 0
theorem s_countTyped {Q : hG → Int32 → Prop} {u : Nat × Nat} {k most v : Nat} {V : List Mt} (h : pKt o G u k most V) (hv : pW o G v l) (hQ : Q G (nI (ctT V l))) : wX2_countTyped Q k v G := by
  obtain ⟨m1, m2, m3⟩ := h.mem
  have key : ∀ (d n i s : Nat), d < n → i + d = V.length → Q G (nI ((V.drop i).foldl (ctS l) s)) → wX2_countTyped_l4 Q n k v (nI s) (nI i) G := by
    intro d
    induction d with
    | zero =>
      intro n i s hn hi hq
      obtain ⟨n, rfl⟩ : ∃ m, n = m + 1 := ⟨n - 1, by omega⟩
      show wX2_countTyped_b4 Q _ _ _ _ _ _
      unfold wX2_countTyped_b4
      refine ⟨hclt m3, s_ksize h (br_t (nI_le (by omega) (by omega)) ?_)⟩
      rw [List.drop_eq_nil_of_le (by omega)] at hq
      exact hq
    | succ d ih =>
      intro n i s hn hi hq
      obtain ⟨n, rfl⟩ : ∃ m, n = m + 1 := ⟨n - 1, by omega⟩
      have k1 : i < V.length := by omega
      rw [List.drop_eq_getElem_cons k1, List.foldl_cons] at hq
      have hn2 := ih n (i + 1) (ctS l s V[i]) (by omega) (by omega) hq
      show wX2_countTyped_b4 Q (wX2_countTyped_l4 Q n) _ _ _ _ _
      unfold wX2_countTyped_b4
      refine ⟨hclt m3, s_ksize h (br_f (nI_ge k1 (by omega)) ⟨hclt m3, s_kget h k1 fun y hy => ?_⟩)⟩
      obtain ⟨y1, y2, ⟨ta, y3, y4⟩, -⟩ := hy
      refine ⟨fun z ez => (by cases ez; exact hclt y1), y, rfl, hclt y1, hlet_i ?_⟩
      rw [y3]
      refine ⟨fun z ez => (by cases ez; exact hclt y4.1), ta, rfl, hclt y4.1, s_equals y4 hv ?_⟩
      unfold ctS at hn2
      by_cases e : V[i].1 = l
      · rw [if_pos e] at hn2 ⊢
        refine br_f (by decide) ?_
        unfold wX2_countTyped_b39
        rw [show nI i + (1 : Int32) = nI (i + 1) from nI_1 _, show nI s + (1 : Int32) = nI (s + 1) from nI_1 _]
        exact hn2
      · rw [if_neg e] at hn2 ⊢
        refine br_t rfl ?_
        unfold wX2_countTyped_b39
        rw [show nI i + (1 : Int32) = nI (i + 1) from nI_1 _, Int32.add_zero]
        exact hn2
  exact ⟨V.length + 1, key V.length _ 0 0 (Nat.lt_succ_self _) (by omega) hQ⟩
def und (V : List Mt) : Nat := V.foldl (fun n e => n + e.2.2) 0
theorem s_undone {Q : hG → Int32 → Prop} (h : pBr o G b a x B) (hQ : Q G (nI (und (bL B)))) : wX2_undone Q a G := by
  obtain ⟨⟨h1, h2, h3⟩, -, -, -, -, -, p5, -⟩ := h
  obtain ⟨m1, m2, m3⟩ := p5.mem
  have key : ∀ (d n i s : Nat), d < n → i + d = (bL B).length → Q G (nI (((bL B).drop i).foldl (fun n e => n + e.2.2) s)) → wX2_undone_l4 Q n a (nI s) (nI i) G := by
    intro d
    induction d with
    | zero =>
      intro n i s hn hi hq
      obtain ⟨n, rfl⟩ : ∃ m, n = m + 1 := ⟨n - 1, by omega⟩
      show wX2_undone_b4 Q _ _ _ _ _
      unfold wX2_undone_b4
      refine ⟨hclt h1, hlet_i ⟨x 5, h3 5 (by decide), hclt m3, s_ksize p5 (br_t (nI_le (by omega) (by omega)) ?_)⟩⟩
      rw [List.drop_eq_nil_of_le (by omega)] at hq
      exact hq
    | succ d ih =>
      intro n i s hn hi hq
      obtain ⟨n, rfl⟩ : ∃ m, n = m + 1 := ⟨n - 1, by omega⟩
      have k1 : i < (bL B).length := by omega
      rw [List.drop_eq_getElem_cons k1, List.foldl_cons] at hq
      have hn2 := ih n (i + 1) _ (by omega) (by omega) hq
      show wX2_undone_b4 Q (wX2_undone_l4 Q n) _ _ _ _
      unfold wX2_undone_b4
      refine ⟨hclt h1, hlet_i ⟨x 5, h3 5 (by decide), hclt m3, s_ksize p5 (br_f (nI_ge k1 (by omega)) ⟨hclt h1, hlet_i ⟨x 5, h3 5 (by decide), hclt m3, s_kget p5 k1 fun y hy => ?_⟩⟩)⟩⟩
      obtain ⟨y1, y2, y3, y4, y5⟩ := hy
      refine ⟨fun z ez => (by cases ez; exact hclt y1), y, rfl, hclt y1, ?_⟩
      rw [y5, show nI i + (1 : Int32) = nI (i + 1) from nI_1 _, nI_add]
      exact hn2
  exact ⟨(bL B).length + 1, key (bL B).length _ 0 0 (Nat.lt_succ_self _) (by omega) hQ⟩
/-- what of a pair -/
def mtV (e : Mt) (what : Int32) : Int64 := if what = 0 then cd e.1 else if what = 1 then cd e.2.1 else (nI e.2.2).toInt64
theorem s_meantValue {Q : hG → Int64 → Prop} {y : Nat} {e : Mt} {what : Int32} (h : pM o G y e) (hQ : Q G (mtV e what)) : wX2_meantValue Q y what G := by
  obtain ⟨y1, y2, ⟨ta, y3, y4⟩, ⟨oa, y5, y6⟩, y7⟩ := h
  unfold wX2_meantValue wX2_meantValue_b40
  unfold mtV at hQ
  refine br_c (fun z => ?_) (fun z => br_c (fun z2 => ?_) (fun z2 => ?_))
  · rw [if_pos z] at hQ
    refine ⟨hclt y1, hlet_i ?_⟩
    rw [y3]
    refine ⟨fun z ez => (by cases ez; exact hclt y4.1), ta, rfl, hclt y4.1, ?_⟩
    rw [y4.2.2.1]
    exact hQ
  · rw [if_neg z, if_pos z2] at hQ
    refine ⟨hclt y1, hlet_i ?_⟩
    rw [y5]
    refine ⟨fun z ez => (by cases ez; exact hclt y6.1), oa, rfl, hclt y6.1, ?_⟩
    rw [y6.2.2.1]
    exact hQ
  · rw [if_neg z, if_neg z2] at hQ
    rw [y7]
    exact ⟨hclt y1, hQ⟩
def prA (V : List Mt) (i : Nat) (what : Int32) : Int64 := match V[i]? with
  | none => -1
  | some e => mtV e what
theorem s_pairValue {Q : hG → Int64 → Prop} {i : Nat} {what : Int32} (hi : i < 2 ^ 31) (h : pBr o G b a x B) (hQ : Q G (prA (bP B) i what)) : wX2_pairValue Q a (nI i) what G := by
  obtain ⟨⟨h1, h2, h3⟩, -, -, p2, -⟩ := h
  obtain ⟨m1, m2, m3⟩ := p2.mem
  unfold wX2_pairValue wX2_pairValue_b32
  unfold prA at hQ
  refine ⟨hclt h1, hlet_i ⟨x 2, h3 2 (by decide), hclt m3, s_ksize p2 (br_c (fun z => ?_) (fun z => ⟨hclt h1, hlet_i ⟨x 2, h3 2 (by decide), hclt m3, ?_⟩⟩))⟩⟩
  · have := (nI_leI (by omega) hi).mp z
    rw [List.getElem?_eq_none this] at hQ
    exact hQ
  · have k1 : i < (bP B).length := Nat.not_le.mp fun y => z ((nI_leI (by omega) hi).mpr y)
    rw [List.getElem?_eq_getElem k1] at hQ
    exact s_kget p2 k1 fun y hy => ⟨fun z ez => (by cases ez; exact hclt hy.1), y, rfl, s_meantValue hy hQ⟩
theorem s_logValue {Q : hG → Int64 → Prop} {i : Nat} {what : Int32} (hi : i < 2 ^ 31) (h : pBr o G b a x B) (hQ : Q G (prA (bL B).reverse i what)) : wX2_logValue Q a (nI i) what G := by
  obtain ⟨⟨h1, h2, h3⟩, -, -, -, -, -, p5, -⟩ := h
  obtain ⟨m1, m2, m3⟩ := p5.mem
  unfold wX2_logValue wX2_logValue_b42
  unfold prA at hQ
  refine ⟨hclt h1, hlet_i ⟨x 5, h3 5 (by decide), hclt m3, s_ksize p5 (br_c (fun z => ?_) (fun z => ⟨hclt h1, hlet_i ⟨hclt h1, hlet_i ⟨x 5, h3 5 (by decide), hclt m3, s_ksize p5 ⟨x 5, h3 5 (by decide), hclt m3, ?_⟩⟩⟩⟩))⟩⟩
  · have := (nI_leI (by omega) hi).mp z
    rw [List.getElem?_eq_none (by rw [List.length_reverse]; exact this)] at hQ
    exact hQ
  · have k1 : i < (bL B).length := Nat.not_le.mp fun y => z ((nI_leI (by omega) hi).mpr y)
    rw [List.getElem?_eq_getElem (by rw [List.length_reverse]; exact k1), List.getElem_reverse] at hQ
    rw [show (1 : Int32) = nI 1 from rfl, nI_sub (by omega), nI_sub (by omega)]
    exact s_kget p5 (by omega) fun y hy => ⟨fun z ez => (by cases ez; exact hclt hy.1), y, rfl, s_meantValue hy hQ⟩
end P34
