/-! ===== plain law 35: counts, value, wordValue, keys' values ===== -/
set_option maxRecDepth 100000
section P35
variable {b a : Nat} {x : Nat → Nat} {B : Bk} {l m : Wd} {c : Nat} {o : gO} {G : hG}
def sumW (V : List Wn) (s : Nat) : Nat := V.foldl (fun n e => n + e.2) s
theorem s_cntL {Q : hG → Int32 → Prop} {u : Nat × Nat} {t it : Nat} (hj : (0, 9) ≠ u) : ∀ (n : Nat) (E2 E1 : List En) (V2 : List Wn) (s : Nat) (G : hG), E2.length < n → pIM o G u t E1 E2 it (0, 9) 12 → vInt o G E2 V2 → (∀ G', gFr tM o G o G' → Q G' (nI (sumW V2 s))) → wX2_counts_l15 Q n (nI s) (some it) G := by
  intro n
  induction n with
  | zero =>
    intro E2 E1 V2 s G hn
    omega
  | succ n ih =>
    intro E2 E1 V2 s G hn h hv hQ
    show wX2_counts_b15 Q (wX2_counts_l15 Q n) _ _ _
    unfold wX2_counts_b15
    refine ⟨it, rfl, hclt h.ic, s_hasN12 h (fun e => br_t rfl ?_) (fun e => br_f (by decide) ⟨hclt h.ic, ?_⟩)⟩
    · rw [e] at hv
      cases V2 with
      | nil => exact hQ G gFr.rf
      | cons w V2 => exact hv.elim
    · cases E2 with
      | nil => exact absurd rfl e
      | cons e0 E2 =>
        cases V2 with
        | nil => exact hv.elim
        | cons w V2 =>
          obtain ⟨⟨v1, y, v2, v3⟩, v4⟩ := hv
          refine s_next12 h hj (by decide) fun G1 g1 g2 => ?_
          have n0 : ¬ gOnly (0, 9) (0, 0) := fun z => by cases z
          have v3' := v3.fr g2 n0
          have v4' := vInt.fr g2 n0 v4
          rw [v2]
          refine ⟨fun y' ey => (by cases ey; exact v3'.cl), y, rfl, v3'.cl, ?_⟩
          have vc := v3'.cl
          obtain ⟨bb, z1, z2, z3⟩ := v3'
          unfold wJ20_intValue
          refine ⟨vc, ?_⟩
          rw [z3]
          show wX2_counts_l15 Q n (nI s + nI w.2) (some it) G1
          rw [nI_add]
          exact ih E2 (E1 ++ [e0]) V2 (s + w.2) G1 (by rw [List.length_cons] at hn; omega) g1 v4' fun G' f => hQ G' ((g2.t0 (by decide)).tr f)
theorem s_counts {Q : hG → Int32 → Prop} (hb : b ≠ 0) (h : pBr o G b a x B) (hQ : ∀ o' G', pBr o' G' b a x B → gFr (qM b) o G o' G' → Q G' (nI (sumW (bW B) 0))) : wX2_counts Q a G := by
  have hh := h
  obtain ⟨⟨h1, h2, h3⟩, ⟨E, p1, p2⟩, -⟩ := h
  unfold wX2_counts
  refine ⟨hclt h1, hlet_i ⟨x 0, h3 0 (by decide), hh.c0, ?_⟩⟩
  refine s_values p1 (on_00 hb) fun o1 G1 q g1 g2 g3 => ⟨q, rfl, hclt g2.1, ?_⟩
  have p2' := vInt.fr g3 (on_0 hb) p2
  have h' := hh.put0 (V := bW B) hb g3 ⟨E, g1, p2'⟩
  refine s_vsIt g1 g2 (0, 9) fun o2 G2 it _ k1 k2 => ⟨E.length + 1, ?_⟩
  refine s_cntL (o := o2) (fun z => hb (congrArg Prod.fst z).symm) _ E [] (bW B) 0 G2 (Nat.lt_succ_self _) k1 (vInt.fr (k2 gNo) (fun z => z) p2') fun G' f => ?_
  have f2 : gFr tM o1 G1 o2 G' := (k2 _).tr f
  exact hQ o2 G' (h'.ft hb f2) (g3.q.tr f2.t)
/-- Book.value -/
def bVal (B : Bk) (what : Int32) : Int32 :=
  if what = 0 then nI (bW B).length else if what = 1 then nI (bN B).length else if what = 2 then nI (bP B).length else if what = 3 then nI (bB B).length
  else if what = 4 then nI (bS B).length else if what = 5 then nI (bL B).length else if what = 6 then nI (und (bL B)) else if what = 7 then bE B 0 else if what = 8 then bE B 1 else if what = 9 then bE B 2 else nI (sumW (bW B) 0)
theorem s_value {Q : hG → Int32 → Prop} {k : Nat} (hk : k ≤ 10) (hb : b ≠ 0) (h : pBr o G b a x B) (hQ : ∀ o' G', pBr o' G' b a x B → gFr (qM b) o G o' G' → Q G' (bVal B (nI k))) : wX2_value Q a (nI k) G := by
  have hh := h
  obtain ⟨⟨h1, h2, h3⟩, ⟨E, p0, q0⟩, p1, p2, p3, p4, p5, p6, p7⟩ := h
  have q := hQ o G hh gFr.rf
  have kn : ∀ {i j : Nat}, i < 20 → j < 20 → i ≠ j → ¬ nI i = nI j := fun hi hj hij z => hij ((nI_eq (by omega) (by omega)).mp z)
  unfold wX2_value wX2_value_b143
  rcases (show k = 0 ∨ k = 1 ∨ k = 2 ∨ k = 3 ∨ k = 4 ∨ k = 5 ∨ k = 6 ∨ k = 7 ∨ k = 8 ∨ k = 9 ∨ k = 10 by omega) with e | e | e | e | e | e | e | e | e | e | e <;> subst e
  all_goals refine ⟨fun z => ?_, fun z => ?_, fun z => ?_, fun z => ?_, fun z => ?_, fun z => ?_, fun z => ?_, fun z => ?_, fun z => ?_, fun z => ?_, fun z => ?_, fun z => ?_⟩
  all_goals first
    | exact absurd z (by decide)
    | skip
  · refine ⟨hclt h1, hlet_i ⟨x 0, h3 0 (by decide), hclt p0.c, s_msize p0 ?_⟩⟩
    rw [q0.len]
    exact q
  · exact ⟨hclt h1, hlet_i ⟨x 1, h3 1 (by decide), hclt p1.1, s_nsize p1 q⟩⟩
  · exact ⟨hclt h1, hlet_i ⟨x 2, h3 2 (by decide), hclt p2.mem.2.2, s_ksize p2 q⟩⟩
  · exact ⟨hclt h1, hlet_i ⟨x 3, h3 3 (by decide), hclt p3.mem.2.2, s_ksize p3 q⟩⟩
  · exact ⟨hclt h1, hlet_i ⟨x 4, h3 4 (by decide), hclt p4.mem.2.2, s_ksize p4 q⟩⟩
  · exact ⟨hclt h1, hlet_i ⟨x 5, h3 5 (by decide), hclt p5.mem.2.2, s_ksize p5 q⟩⟩
  · exact ⟨hclt h1, s_undone hh q⟩
  · refine ⟨hclt h1, hlet_i ⟨x 7, h3 7 (by decide), hclt p7.1, vp_in_nI (n := 0) (by rw [p7.2.2.1]; decide) (by rw [p7.2.2.1]; decide), ?_⟩⟩
    rw [show Int32.toNatClampNeg (nI 7 - 7) = 0 from rfl, p7.2.2.2 0 (by decide)]
    exact q
  · refine ⟨hclt h1, hlet_i ⟨x 7, h3 7 (by decide), hclt p7.1, vp_in_nI (n := 1) (by rw [p7.2.2.1]; decide) (by rw [p7.2.2.1]; decide), ?_⟩⟩
    rw [show Int32.toNatClampNeg (nI 8 - 7) = 1 from rfl, p7.2.2.2 1 (by decide)]
    exact q
  · refine ⟨hclt h1, hlet_i ⟨x 7, h3 7 (by decide), hclt p7.1, vp_in_nI (n := 2) (by rw [p7.2.2.1]; decide) (by rw [p7.2.2.1]; decide), ?_⟩⟩
    rw [show Int32.toNatClampNeg (nI 9 - 7) = 2 from rfl, p7.2.2.2 2 (by decide)]
    exact q
  · exact ⟨hclt h1, s_counts hb hh hQ⟩
/-- Book.wordValue -/
def wVal (B : Bk) (w : Wd) (what : Nat) : Int32 :=
  if what = 0 then nI (cnt B w) else if what = 1 then (if w ∈ bN B then 1 else 0) else if what = 2 then (match plc (bS B) w w with | none => 0 | some k => nI ((bS B).getD k ([], [], 0)).2.2)
  else if what = 3 then nI w.length else if what = 4 then ix (wpF w (keys B) 0) else if what = 5 then nI (ctT (bP B) w) else nI (ctT (bB B) w)
theorem s_wordValue {Q : hG → Int32 → Prop} {k v : Nat} (hk : k ≤ 6) (hb : b ≠ 0) (h : pBr o G b a x B) (hv : pW o G v l) (hQ : ∀ o' G', pBr o' G' b a x B → gFr (qM b) o G o' G' → ((∃ v, hR G (x 0) 7 = some v) → gFr (gOnly (0, 10)) o G o' G') → Q G' (wVal B l k)) : wX2_wordValue Q a v (nI k) G := by
  have hh := h
  obtain ⟨⟨h1, h2, h3⟩, ⟨E, p0, q0⟩, p1, p2, p3, p4, p5, p6, p7⟩ := h
  have q := hQ o G hh gFr.rf (fun _ => gFr.rf)
  unfold wX2_wordValue wX2_wordValue_b135
  refine ⟨hclt h1, hlet_i ⟨x 4, h3 4 (by decide), s_placeOf p4 hv hv ?_⟩⟩
  rcases (show k = 0 ∨ k = 1 ∨ k = 2 ∨ k = 3 ∨ k = 4 ∨ k = 5 ∨ k = 6 by omega) with e | e | e | e | e | e | e <;> subst e
  all_goals refine ⟨fun z => ?_, fun z => ?_, fun z => ?_, fun z => ?_, fun z => ?_, fun z => ?_, fun z => ?_⟩
  all_goals first
    | exact absurd z (by decide)
    | skip
  · exact ⟨hclt h1, s_countOf hh hv q⟩
  · refine ⟨hclt h1, hlet_i ⟨x 1, h3 1 (by decide), hclt p1.1, s_nhas2 hh hv (fun w => br_f (by decide) ?_) (fun w => br_t rfl ?_)⟩⟩
    · have q' : Q G (if l ∈ bN B then 1 else 0) := q
      rw [if_pos w] at q'
      exact q'
    · have q' : Q G (if l ∈ bN B then 1 else 0) := q
      rw [if_neg w] at q'
      exact q'
  · have q' : Q G (match plc (bS B) l l with | none => 0 | some k => nI ((bS B).getD k ([], [], 0)).2.2) := q
    have m4 := p4.mem
    cases e : plc (bS B) l l with
    | none =>
      rw [e] at q'
      exact br_t rfl q'
    | some k =>
      rw [e] at q'
      obtain ⟨k1, -⟩ := plc_lt e
      refine br_f (ix_nm (by omega)) ⟨hclt h1, hlet_i ⟨x 4, h3 4 (by decide), hclt m4.2.2, s_kget p4 k1 fun y hy => ⟨fun z ez => (by cases ez; exact hclt hy.1), y, rfl, hclt hy.1, ?_⟩⟩⟩
      rw [hy.2.2.2.2]
      have q'' : Q G (nI ((bS B).getD k ([], [], 0)).2.2) := q'
      rw [List.getD_eq_getElem?_getD, List.getElem?_eq_getElem k1] at q''
      exact q''
  · exact ⟨hclt hv.1, s_wlen hv q⟩
  · exact ⟨hclt h1, s_placeIO hb hh hv hQ⟩
  · exact ⟨hclt h1, hlet_i ⟨x 2, h3 2 (by decide), s_countTyped p2 hv q⟩⟩
  · exact ⟨hclt h1, hlet_i ⟨x 3, h3 3 (by decide), s_countTyped p3 hv q⟩⟩
/-! keys -/
def bsS (i : Nat) (n j : Nat) : Nat := if bes i j then n + 1 else n
def bsN (i : Nat) : Nat := (List.range 26).foldl (bsS i) 0
theorem s_besides {Q : hG → Int32 → Prop} {i : Nat} (hi : i < 26) (hk : kS o G) (hQ : Q G (nI (bsN i))) : wX8_besides Q (nI (97 + i)) G := by
  have key : ∀ (d j s : Nat), j + d = 26 → Q G (nI ((List.range' j d).foldl (bsS i) s)) → wX8_besides_l5 Q (d + 1) (nI (97 + i)) (nI s) (nI (97 + j)) G := by
    intro d
    induction d with
    | zero =>
      intro j s hj hq
      show wX8_besides_b5 Q _ _ _ _ _
      unfold wX8_besides_b5
      exact br_t ((nI_ltI (a := 122) (by omega) (by omega)).mpr (by omega)) hq
    | succ d ih =>
      intro j s hj hq
      show wX8_besides_b5 Q (wX8_besides_l5 Q (d + 1)) _ _ _ _
      unfold wX8_besides_b5
      rw [show List.range' j (d + 1) = j :: List.range' (j + 1) d from rfl, List.foldl_cons] at hq
      have hn := ih (j + 1) (bsS i s j) (by omega) hq
      have e1 : (((nI (97 + j) + (1 : Int32))).toUInt32 % 65536).toInt32 = nI (97 + (j + 1)) := by
        rw [show nI (97 + j) + (1 : Int32) = nI (97 + j + 1) from nI_1 _]
        exact (sb_byte (97 + j + 1) (by omega)).2.1
      refine br_f (fun z => by have := (nI_ltI (a := 122) (by omega) (by omega)).mp z; omega) (s_areBeside hi (by omega) hk ?_)
      unfold wX8_besides_b25
      rw [e1]
      unfold bsS at hn
      by_cases e : bes i j = true
      · rw [if_pos e] at hn ⊢
        refine br_f (by decide) ?_
        rw [show nI s + (1 : Int32) = nI (s + 1) from nI_1 _]
        exact hn
      · rw [if_neg e] at hn ⊢
        refine br_t rfl ?_
        rw [Int32.add_zero]
        exact hn
  refine ⟨27, key 26 0 0 rfl ?_⟩
  unfold bsN at hQ
  rw [List.range_eq_range'] at hQ
  exact hQ
def kVal (B : Bk) (i what : Nat) : Int32 := if what = 0 then nI (pL i / 10) else if what = 1 then nI (pL i % 10) else if what = 2 then nI (hnd i) else if what = 3 then bK B i else nI (bsN i)
theorem s_keyValue {Q : hG → Int32 → Prop} {i k : Nat} (hi : i < 26) (hk4 : k ≤ 4) (h : pBr o G b a x B) (hk : kS o G) (hQ : Q G (kVal B i k)) : wX2_keyValue Q a (nI (97 + i)) (nI k) G := by
  obtain ⟨⟨h1, h2, h3⟩, -, -, -, -, -, -, p6, -⟩ := h
  unfold wX2_keyValue wX2_keyValue_b69
  rcases (show k = 0 ∨ k = 1 ∨ k = 2 ∨ k = 3 ∨ k = 4 by omega) with e | e | e | e | e <;> subst e
  all_goals refine ⟨fun z => ?_, fun z => ?_, fun z => ?_, fun z => ?_, fun z => ?_⟩
  all_goals first
    | exact absurd z (by decide)
    | skip
  · exact s_rowOf hi hk hQ
  · exact s_columnOf hi hk hQ
  · exact s_handOf hi hk hQ
  · rw [show (97 : Int32) = nI 97 from rfl, nI_sub (by omega), show 97 + i - 97 = i by omega]
    refine ⟨hclt h1, hlet_i ⟨x 6, h3 6 (by decide), hclt p6.1, vp_in_nI (by rw [p6.2.2.1]; exact hi) (by rw [p6.2.2.1]; decide), ?_⟩⟩
    rw [nI_clamp (by omega), p6.2.2.2 i hi]
    exact hQ
  · exact s_besides hi hk hQ
end P35
