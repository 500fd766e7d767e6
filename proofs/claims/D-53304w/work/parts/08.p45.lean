/-! ===== plain law 45: digest ===== -/
set_option maxRecDepth 100000
def hs (h v : Int64) : Int64 := 31 * h + v
def dgS (B : Bk) (w : Wd) (s : Int64) (k : Nat) : Int64 := hs s (wVal B w k).toInt64
def dgW (B : Bk) (h : Int64) (w : Wd) : Int64 := hs ((List.range 7).foldl (dgS B w) (hs h (cd w))) (nI (rsk B w)).toInt64
def dgH (st : Ste) (s : Int64) (k : Nat) : Int64 := hs s (whV st k).toInt64
def dgK (B : Bk) (s : Int64) (k : Nat) : Int64 := hs s (bK B k).toInt64
def dgP (V : List Mt) (s : Int64) (k : Nat) : Int64 := hs s (prA V (k / 3) (nI (k % 3)))
def dgN (s : Int64) (w : Wd) : Int64 := hs s (cd w)
def dig (st : Ste) : Int64 :=
  (List.range (3 * (bL st.1).length)).foldl (dgP (bL st.1).reverse) ((List.range (3 * (bP st.1).length)).foldl (dgP (bP st.1)) ((bN st.1).foldl dgN ((keys st.1).foldl (dgW st.1)
    ((List.range 26).foldl (dgK st.1) ((List.range 12).foldl (dgH st) (hs 43304 (nI st.2.1.length).toInt64))))))
section P45
variable {b a xa : Nat} {x : Nat → Nat} {B : Bk} {c : Nat} {st : Ste}
/-- the object and its book, in the midst of digest -/
def dSt (o : gO) (G : hG) (b a xa : Nat) (x : Nat → Nat) (B : Bk) : Prop := pBr o G b a x B ∧ kS o G ∧ hC G xa = some (1, true) ∧ o xa = (1, 0) ∧ hR G xa 0 = some a
theorem dSt.fr {M : Nat × Nat → Prop} {o o' : gO} {G G' : hG} (h : dSt o G b a xa x B) (hB : pBr o' G' b a x B) (hf : gFr M o G o' G') (h1 : ¬ M (1, 0)) (h0 : ¬ M (0, 0)) : dSt o' G' b a xa x B := by
  obtain ⟨h2, h3, h4, h5, h6⟩ := h
  exact ⟨hB, h3.fr hf h0, hf.C h4, (hf.O h4).trans h5, (hf.S h4 h5 h1).R h6⟩
theorem s_hashW {Q : hG → Int64 → Prop} {o : gO} {G : hG} {y : Nat} {w : Wd} {h : Int64} (hb : 4 ≤ b) (hg : gB c B) (hd : dSt o G b a xa x B) (hv : ∃ v, hR G (x 0) 7 = some v) (hw : pW o G y w) (hQ : ∀ o' G', gFr (gOnly (0, 10)) o G o' G' → Q G' (dgW B h w)) : wX1_hashWord Q xa h y G := by
  have n0 : ¬ gOnly (0, 10) (0, 0) := fun z => by cases z
  have nb : ∀ i, ¬ gOnly (0, 10) (b, i) := fun i z => by have : b = 0 := congrArg Prod.fst z; omega
  have n1 : ¬ gOnly (0, 10) (1, 0) := fun z => by cases z
  have lp : ∀ (d k : Nat) (s : Int64) (o1 : gO) (G1 : hG), k + d = 7 → dSt o1 G1 b a xa x B → (∃ v, hR G1 (x 0) 7 = some v) → pW o1 G1 y w → gFr (gOnly (0, 10)) o G o1 G1 → (∀ o' G', gFr (gOnly (0, 10)) o G o' G' → Q G' (hs ((List.range' k d).foldl (dgS B w) s) (nI (rsk B w)).toInt64)) → wX1_hashWord_l13 Q (d + 1) xa y s (nI k) G1 := by
    intro d
    induction d with
    | zero =>
      intro k s o1 G1 hk hd hv hw hf hq
      show wX1_hashWord_b13 Q _ _ _ _ _ _
      unfold wX1_hashWord_b13
      obtain ⟨h2, h3, h4, h5, h6⟩ := hd
      refine br_t ((nI_leI (a := 7) (by omega) (by omega)).mpr (by omega)) ⟨hclt h4, hlet_i ⟨a, h6, hclt h2.1.1, s_risk (by omega) hg h2 h3 hw fun o2 G2 _ _ r3 => ?_⟩⟩
      unfold wX1_hash
      exact hq o2 G2 (hf.tr (r3 hv))
    | succ d ih =>
      intro k s o1 G1 hk hd hv hw hf hq
      show wX1_hashWord_b13 Q (wX1_hashWord_l13 Q (d + 1)) _ _ _ _ _
      unfold wX1_hashWord_b13
      have hdd := hd
      obtain ⟨h2, h3, h4, h5, h6⟩ := hd
      rw [show List.range' k (d + 1) = k :: List.range' (k + 1) d from rfl, List.foldl_cons] at hq
      refine br_f (fun z => by have := (nI_leI (a := 7) (by omega) (by omega)).mp z; omega) ⟨hclt h4, hlet_i ⟨a, h6, hclt h2.1.1, s_wordValue (by omega) (by omega) h2 hw fun o2 G2 r1 _ r3 => ?_⟩⟩
      unfold wX1_hash
      rw [show nI k + (1 : Int32) = nI (k + 1) from nI_1 _]
      have f := r3 hv
      obtain ⟨v, hv⟩ := hv
      have cx := h2.2.1
      obtain ⟨E0, p1, -⟩ := cx
      exact ih (k + 1) _ o2 G2 (by omega) (hdd.fr r1 f n1 n0) ⟨v, (f.S p1.c p1.ow (nb 0)).R hv⟩ (hw.fr f n0) (hf.tr f) hq
  unfold wX1_hashWord wX1_hash
  refine ⟨hclt hw.1, ?_⟩
  rw [hw.2.2.1]
  refine lp 7 0 _ o G rfl hd hv hw gFr.rf fun o' G' f => ?_
  have := hQ o' G' f
  unfold dgW at this
  rw [List.range_eq_range'] at this
  exact this
/-- pairs and log: no change of the heap -/
theorem s_dgL {Q : hG → Int64 → Prop} {o : gO} {G : hG} (hd : dSt o G b a xa x B) : ∀ (d k : Nat) (s : Int64) (n : Nat), d < n → k + d = 3 * (bL B).length → Q G ((List.range' k d).foldl (dgP (bL B).reverse) s) → wX1_digest_l217 Q n xa s (nI k) G := by
  have hdd := hd
  obtain ⟨h2, h3, h4, h5, h6⟩ := hd
  have m5 := h2.2.2.2.2.2.2.1.mem
  intro d
  induction d with
  | zero =>
    intro k s n hn hk hq
    obtain ⟨n, rfl⟩ : ∃ m, n = m + 1 := ⟨n - 1, by omega⟩
    show wX1_digest_b217 Q _ _ _ _ _
    unfold wX1_digest_b217
    refine ⟨hclt h4, hlet_i ⟨a, h6, hclt h2.1.1, hlet_i ⟨x 5, h2.1.2.2 5 (by decide), hclt m5.2.2, s_ksize h2.2.2.2.2.2.2.1 ?_⟩⟩⟩
    rw [show nI (bL B).length * (3 : Int32) = nI ((bL B).length * 3) from pk_mul ..]
    exact br_t ((nI_leI (by omega) (by omega)).mpr (by omega)) hq
  | succ d ih =>
    intro k s n hn hk hq
    obtain ⟨n, rfl⟩ : ∃ m, n = m + 1 := ⟨n - 1, by omega⟩
    show wX1_digest_b217 Q (wX1_digest_l217 Q n) _ _ _ _
    unfold wX1_digest_b217
    rw [show List.range' k (d + 1) = k :: List.range' (k + 1) d from rfl, List.foldl_cons] at hq
    have hn2 := ih (k + 1) _ n (by omega) (by omega) hq
    refine ⟨hclt h4, hlet_i ⟨a, h6, hclt h2.1.1, hlet_i ⟨x 5, h2.1.2.2 5 (by decide), hclt m5.2.2, s_ksize h2.2.2.2.2.2.2.1 ?_⟩⟩⟩
    rw [show nI (bL B).length * (3 : Int32) = nI ((bL B).length * 3) from pk_mul ..]
    refine br_f (fun z => by have := (nI_leI (by omega) (by omega)).mp z; omega) ⟨hclt h4, hlet_i ⟨a, h6, hclt h2.1.1, ?_⟩⟩
    rw [show (3 : Int32) = nI 3 from rfl, pk_rem (by omega) (by decide) (by decide), pk_div (by omega) (by decide) (by decide)]
    refine s_logValue (by omega) h2 ?_
    unfold wX1_hash
    rw [show nI k + (1 : Int32) = nI (k + 1) from nI_1 _]
    exact hn2
theorem s_dgP {Q : hG → Int64 → Prop} {o : gO} {G : hG} (hd : dSt o G b a xa x B) : ∀ (d k : Nat) (s : Int64) (n : Nat), d < n → k + d = 3 * (bP B).length → (∀ s', s' = (List.range' k d).foldl (dgP (bP B)) s → ∃ n, wX1_digest_l217 Q n xa s' (0 : Int32) G) → wX1_digest_l175 Q n xa s (nI k) G := by
  have hdd := hd
  obtain ⟨h2, h3, h4, h5, h6⟩ := hd
  have m5 := h2.2.2.2.1.mem
  intro d
  induction d with
  | zero =>
    intro k s n hn hk hq
    obtain ⟨n, rfl⟩ : ∃ m, n = m + 1 := ⟨n - 1, by omega⟩
    show wX1_digest_b175 Q _ _ _ _ _
    unfold wX1_digest_b175
    refine ⟨hclt h4, hlet_i ⟨a, h6, hclt h2.1.1, hlet_i ⟨x 2, h2.1.2.2 2 (by decide), hclt m5.2.2, s_ksize h2.2.2.2.1 ?_⟩⟩⟩
    rw [show nI (bP B).length * (3 : Int32) = nI ((bP B).length * 3) from pk_mul ..]
    exact br_t ((nI_leI (by omega) (by omega)).mpr (by omega)) (hq s rfl)
  | succ d ih =>
    intro k s n hn hk hq
    obtain ⟨n, rfl⟩ : ∃ m, n = m + 1 := ⟨n - 1, by omega⟩
    show wX1_digest_b175 Q (wX1_digest_l175 Q n) _ _ _ _
    unfold wX1_digest_b175
    rw [show List.range' k (d + 1) = k :: List.range' (k + 1) d from rfl] at hq
    simp only [List.foldl_cons] at hq
    have hn2 := ih (k + 1) _ n (by omega) (by omega) hq
    refine ⟨hclt h4, hlet_i ⟨a, h6, hclt h2.1.1, hlet_i ⟨x 2, h2.1.2.2 2 (by decide), hclt m5.2.2, s_ksize h2.2.2.2.1 ?_⟩⟩⟩
    rw [show nI (bP B).length * (3 : Int32) = nI ((bP B).length * 3) from pk_mul ..]
    refine br_f (fun z => by have := (nI_leI (by omega) (by omega)).mp z; omega) ⟨hclt h4, hlet_i ⟨a, h6, hclt h2.1.1, ?_⟩⟩
    rw [show (3 : Int32) = nI 3 from rfl, pk_rem (by omega) (by decide) (by decide), pk_div (by omega) (by decide) (by decide)]
    refine s_pairValue (by omega) h2 ?_
    unfold wX1_hash
    rw [show nI k + (1 : Int32) = nI (k + 1) from nI_1 _]
    exact hn2
theorem s_dgNL {Q : hG → Int64 → Prop} {u : Nat × Nat} {t it : Nat} (hj : (0, 9) ≠ u) (hu : u.1 = b) (hb : 4 ≤ b) : ∀ (n : Nat) (K2 : List Wd) (s : Int64) (o : gO) (G : hG), K2.length < n → dSt o G b a xa x B → pKi o G u t 9 K2 it → (∀ o' G', dSt o' G' b a xa x B → gFr tM o G o' G' → ∃ n, wX1_digest_l175 Q n xa (K2.foldl dgN s) (0 : Int32) G') → wX1_digest_l140 Q n xa s (some it) G := by
  intro n
  induction n with
  | zero =>
    intro K2 s o G hn
    omega
  | succ n ih =>
    intro K2 s o G hn hd h hQ
    show wX1_digest_b140 Q (wX1_digest_l140 Q n) _ _ _ _
    unfold wX1_digest_b140
    refine ⟨it, rfl, hclt h.ic, s_kiHas h (fun e => br_t rfl ?_) (fun e => br_f (by decide) ⟨hclt h.ic, ?_⟩)⟩
    · rw [e] at hQ
      exact hQ o G hd gFr.rf
    · cases K2 with
      | nil => exact absurd rfl e
      | cons w K2 =>
        rw [List.foldl_cons] at hQ
        refine s_kiNext hj (by decide) h fun G1 y g1 g2 g3 => ⟨fun y' ey => (by cases ey; exact hclt g3.1), y, rfl, hclt g3.1, ?_⟩
        unfold wX1_hash
        rw [g3.2.2.1]
        have f : gFr tM o G o G1 := g2.t0 (by decide)
        refine ih K2 _ o G1 (by rw [List.length_cons] at hn; omega) (hd.fr (hd.1.ft (by omega) f) f (fun z => by cases z.1) tM_0) g1 fun o2 G2 r1 r2 => hQ o2 G2 r1 (f.tr r2)
theorem s_dgWL {Q : hG → Int64 → Prop} {it : Nat} (hb : 4 ≤ b) (hg : gB c B) : ∀ (n : Nat) (K2 K1 : List Wd) (s : Int64) (o : gO) (G : hG), K2.length < n → dSt o G b a xa x B → pBi o G b a x B 9 K1 K2 it → (∀ o' G', dSt o' G' b a xa x B → gFr tM o G o' G' → hcl G' xa 1 ∧ hlet (hR G' xa 0) fun y10 => ∃ a11, y10 = some a11 ∧ (hcl G' a11 2 ∧ hlet (hR G' a11 1) fun y13 => ∃ a14, y13 = some a14 ∧ (hcl G' a14 17 ∧ (wJ4_iterator (fun G15 z16 => ∃ n, wX1_digest_l140 Q n xa (K2.foldl (dgW B) s) z16 G15) a14 G')))) → wX1_digest_l98 Q n xa s (some it) G := by
  intro n
  induction n with
  | zero =>
    intro K2 K1 s o G hn
    omega
  | succ n ih =>
    intro K2 K1 s o G hn hd h hQ
    show wX1_digest_b98 Q (wX1_digest_l98 Q n) _ _ _ _
    unfold wX1_digest_b98
    refine ⟨it, rfl, hclt h.ic, s_biHas h (fun e => br_t rfl ?_) (fun e => br_f (by decide) ⟨hclt h.ic, ?_⟩)⟩
    · rw [e] at hQ
      exact hQ o G hd gFr.rf
    · cases K2 with
      | nil => exact absurd rfl e
      | cons w K2 =>
        simp only [List.foldl_cons] at hQ
        have n9 : ¬ gOnly (0, 9) (0, 0) := fun z => by cases z
        have n10 : ¬ gOnly (0, 10) (0, 0) := fun z => by cases z
        refine s_biNext (by decide) h (by omega) fun G1 y g1 g2 g3 => ?_
        have d1 := hd.fr g1.1 g2 (fun z => by cases z) n9
        refine ⟨fun y' ey => (by cases ey; exact hclt g3.1), y, rfl, hclt d1.2.2.1, s_hashW hb hg d1 g1.2.1 g3 fun o2 G2 f2 => ?_⟩
        have h2 := g1.fr f2 (fun i z => by have : b = 0 := congrArg Prod.fst z; omega) (fun z => by cases z) n10
        exact ih K2 (K1 ++ [w]) _ o2 G2 (by rw [List.length_cons] at hn; omega) (d1.fr h2.1 f2 (fun z => by cases z) n10) h2 fun o3 G3 r1 r2 => hQ o3 G3 r1 (((g2.t0 (by decide)).tr (f2.t0 (by decide))).tr r2)
theorem s_dgKL {Q : hG → Int64 → Prop} {o : gO} {G : hG} (hd : dSt o G b a xa x B) : ∀ (d k : Nat) (s : Int64) (n : Nat), d < n → k + d = 26 → (hcl G xa 1 ∧ hlet (hR G xa 0) fun y3 => ∃ a4, y3 = some a4 ∧ (hcl G a4 2 ∧ hlet (hR G a4 0) fun y6 => ∃ a7, y6 = some a7 ∧ (hcl G a7 9 ∧ (wJ1_keySet (fun G8 z9 => ∃ a14, z9 = some a14 ∧ (hcl G8 a14 14 ∧ (wJ18_iterator (fun G15 z16 => wX1_digest_l98 Q 21 xa ((List.range' k d).foldl (dgK B) s) z16 G15) a14 G8))) a7 G)))) → wX1_digest_l55 Q n xa s (x 6) (nI 26) (nI k) G := by
  have hdd := hd
  obtain ⟨h2, h3, h4, h5, h6⟩ := hd
  have p6 := h2.2.2.2.2.2.2.2.1
  intro d
  induction d with
  | zero =>
    intro k s n hn hk hq
    obtain ⟨n, rfl⟩ : ∃ m, n = m + 1 := ⟨n - 1, by omega⟩
    show wX1_digest_b55 Q _ _ _ _ _ _ _
    unfold wX1_digest_b55
    exact br_t ((nI_leI (by omega) (by omega)).mpr (by omega)) hq
  | succ d ih =>
    intro k s n hn hk hq
    obtain ⟨n, rfl⟩ : ∃ m, n = m + 1 := ⟨n - 1, by omega⟩
    show wX1_digest_b55 Q (wX1_digest_l55 Q n) _ _ _ _ _ _
    unfold wX1_digest_b55
    rw [show List.range' k (d + 1) = k :: List.range' (k + 1) d from rfl] at hq
    simp only [List.foldl_cons] at hq
    refine br_f (fun z => by have := (nI_leI (by omega) (by omega)).mp z; omega) ⟨hclt p6.1, vp_in_nI (by rw [p6.2.2.1]; omega) (by rw [p6.2.2.1]; decide), ?_⟩
    unfold wX1_hash
    rw [nI_clamp (by omega), p6.2.2.2 k (by omega), show nI k + (1 : Int32) = nI (k + 1) from nI_1 _]
    exact ih (k + 1) _ n (by omega) (by omega) hq
theorem s_xdigest {Q : hG → Int64 → Prop} {o : gO} {G : hG} (h : pX o G xa c st) (hQ : ∀ o' G', pX o' G' xa c st → gFr xM o G o' G' → Q G' (dig st)) : wX1_digest Q xa G := by
  have hsz : hC G xa = some (1, true) ∧ ∃ sl L, hR G xa 1 = some sl ∧ pAL o G (1, 1) sl L ∧ L.length = st.2.1.length := by
    obtain ⟨a, sl, ta, b, ids, L, h⟩ := h
    exact ⟨h.1.1, sl, L, h.1.2.2.2.1, h.2.1.1, h.2.1.2.1⟩
  obtain ⟨a1, sl, L, a4, b1, b2⟩ := hsz
  have sc : hC G sl = some (18, true) := by
    obtain ⟨r, b1⟩ := b1
    exact b1.1
  have lp : ∀ (d k : Nat) (s : Int64) (o1 : gO) (G1 : hG), k + d = 12 → pX o1 G1 xa c st → gFr xM o G o1 G1 → (∀ o2 G2, pX o2 G2 xa c st → gFr xM o G o2 G2 → Q G2 ((List.range (3 * (bL st.1).length)).foldl (dgP (bL st.1).reverse) ((List.range (3 * (bP st.1).length)).foldl (dgP (bP st.1)) ((bN st.1).foldl dgN ((keys st.1).foldl (dgW st.1) ((List.range 26).foldl (dgK st.1) ((List.range' k d).foldl (dgH st) s))))))) → wX1_digest_l17 Q (d + 1) xa s (nI k) G1 := by
    intro d
    induction d with
    | zero =>
      intro k s o1 G1 hk hx hf hq
      show wX1_digest_b17 Q _ _ _ _ _
      unfold wX1_digest_b17
      obtain ⟨a, b, x, hb4, x1, x2, x3, x4, x5, x6⟩ := hx.q
      have ox : o1 xa = (1, 0) := by
        obtain ⟨_, _, _, _, _, _, hx⟩ := hx
        exact hx.1.2.1
      have d1 : dSt o1 G1 b a xa x st.1 := ⟨x3, x5.2.2, x1, ox, x2⟩
      have p6 := x3.2.2.2.2.2.2.2.1
      refine br_t ((nI_leI (a := 12) (by omega) (by omega)).mpr (by omega)) ⟨hclt x1, hlet_i ⟨a, x2, hclt x3.1.1, hlet_i ⟨x 6, x3.1.2.2 6 (by decide), hclt p6.1, 27, ?_⟩⟩⟩
      rw [p6.2.2.1]
      have nq0 : ∀ i, ¬ gOnly (b, i) (0, 0) := fun i => on_0 (by omega)
      have nq1 : ∀ i, ¬ gOnly (b, i) (1, 0) := fun i z => by have : 1 = b := congrArg Prod.fst z; omega
      refine s_dgKL d1 26 0 s 27 (by decide) rfl ⟨hclt x1, hlet_i ⟨a, x2, hclt x3.1.1, hlet_i ⟨x 0, x3.1.2.2 0 (by decide), x3.c0, ?_⟩⟩⟩
      refine s_biGo 9 (Q := fun G15 z16 => wX1_digest_l98 Q 21 xa _ z16 G15) x3 (by omega) fun o2 G2 it r1 r2 _ => ?_
      have d2 := d1.fr r1.1 r2 (nq1 0) (nq0 0)
      refine s_dgWL hb4 x4 21 (keys st.1) [] _ o2 G2 ?_ d2 r1 fun o3 G3 d3 f3 => ?_
      · unfold keys
        rw [List.length_map]
        have := x4.1
        omega
      · have e3 := d3.1
        refine ⟨hclt d3.2.2.1, hlet_i ⟨a, d3.2.2.2.2, hclt e3.1.1, hlet_i ⟨x 1, e3.1.2.2 1 (by decide), hclt e3.2.2.1.1, s_nmIt 9 e3 (by omega) fun o4 G4 t it2 q1 q2 q3 => ⟨(bN st.1).length + 1, ?_⟩⟩⟩⟩
        have d4 := d3.fr q1 q3 (nq1 1) (nq0 1)
        refine s_dgNL (u := (b, 1)) (fun z => by have : 0 = b := congrArg Prod.fst z; omega) rfl hb4 _ (bN st.1) _ o4 G4 (Nat.lt_succ_self _) d4 q2 fun o5 G5 d5 f5 => ⟨3 * (bP st.1).length + 1, ?_⟩
        refine s_dgP d5 (3 * (bP st.1).length) 0 _ _ (Nat.lt_succ_self _) (by omega) fun s' hs' => ⟨3 * (bL st.1).length + 1, ?_⟩
        refine s_dgL d5 (3 * (bL st.1).length) 0 _ _ (Nat.lt_succ_self _) (by omega) ?_
        obtain ⟨k3, k4⟩ := x6 o5 G5 d5.1 (((r2.q.tr f3.t).tr q3.q).tr f5.t)
        have := hq o5 G5 k3 (hf.tr k4)
        rw [hs']
        simp only [List.range_eq_range'] at this
        exact this
    | succ d ih =>
      intro k s o1 G1 hk hx hf hq
      show wX1_digest_b17 Q (wX1_digest_l17 Q (d + 1)) _ _ _ _
      unfold wX1_digest_b17
      rw [show List.range' k (d + 1) = k :: List.range' (k + 1) d from rfl] at hq
      simp only [List.foldl_cons] at hq
      have x1 : hC G1 xa = some (1, true) := by
        obtain ⟨_, _, _, _, _, _, hx⟩ := hx
        exact hx.1.1
      refine br_f (fun z => by have := (nI_leI (a := 12) (by omega) (by omega)).mp z; omega) ⟨hclt x1, s_wholeOf (by omega) hx fun o2 G2 r1 r2 => ?_⟩
      unfold wX1_hash
      rw [show nI k + (1 : Int32) = nI (k + 1) from nI_1 _]
      exact ih (k + 1) _ o2 G2 (by omega) r1 (hf.tr r2) hq
  unfold wX1_digest
  refine ⟨hclt a1, hlet_i ⟨sl, a4, hclt sc, s_alsize b1 ?_⟩⟩
  unfold wX1_hash
  rw [b2]
  refine lp 12 0 _ o G rfl h gFr.rf fun o2 G2 r1 r2 => ?_
  have := hQ o2 G2 r1 r2
  unfold dig at this
  rw [show List.range 12 = List.range' 0 12 from List.range_eq_range' ..] at this
  exact this
end P45
