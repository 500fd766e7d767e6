/-! ===== plain law 2: words as lists of letters ===== -/
set_option maxRecDepth 100000
def cdr : List Nat → Nat
  | [] => 0
  | d :: t => d + 32 * cdr t
def dg : Nat → Nat → List Nat
  | 0, _ => []
  | f + 1, n => if n = 0 then [] else n % 32 :: dg f (n / 32)
theorem dg_0 (f : Nat) : dg f 0 = [] := by cases f <;> simp [dg]
theorem dg_s {f n : Nat} (h : n ≠ 0) : dg (f + 1) n = n % 32 :: dg f (n / 32) := by simp [dg, h]
theorem dg_lt : ∀ (f n d : Nat), d ∈ dg f n → d < 32
  | 0, _, d, h => by simp [dg] at h
  | f + 1, n, d, h => by
    by_cases e : n = 0
    · rw [e, dg_0] at h
      cases h
    · rw [dg_s e] at h
      rcases List.mem_cons.mp h with h | h
      · rw [h]
        exact Nat.mod_lt _ (by decide)
      · exact dg_lt f _ d h
theorem dg_len : ∀ (f n : Nat), (dg f n).length ≤ f
  | 0, _ => by simp [dg]
  | f + 1, n => by
    by_cases e : n = 0
    · rw [e, dg_0]
      simp
    · rw [dg_s e]
      have := dg_len f (n / 32)
      simp only [List.length_cons]
      omega
theorem cdr_dg : ∀ (f n : Nat), n < 32 ^ f → cdr (dg f n) = n
  | 0, n, h => by
    have h0 : n = 0 := by simpa using h
    rw [h0, dg_0]
    rfl
  | f + 1, n, h => by
    by_cases e : n = 0
    · rw [e, dg_0]
      rfl
    · rw [dg_s e]
      show n % 32 + 32 * cdr (dg f (n / 32)) = n
      rw [cdr_dg f (n / 32) (by rw [Nat.pow_succ] at h; omega)]
      omega
theorem dg_cdr : ∀ (f : Nat) (t : List Nat), t.length ≤ f → (∀ d ∈ t, 1 ≤ d ∧ d < 32) → dg f (cdr t) = t
  | f, [], _, _ => dg_0 f
  | 0, d :: t, h, _ => by simp at h
  | f + 1, d :: t, h, hd => by
    have h1 := hd d List.mem_cons_self
    have h2 : cdr (d :: t) = d + 32 * cdr t := rfl
    rw [h2, dg_s (by omega), show (d + 32 * cdr t) % 32 = d by omega, show (d + 32 * cdr t) / 32 = cdr t by omega, dg_cdr f t (by simpa using h) (fun x hx => hd x (List.mem_cons_of_mem _ hx))]
theorem cdr_lt : ∀ (t : List Nat), (∀ d ∈ t, d < 32) → cdr t < 32 ^ t.length
  | [], _ => by decide
  | d :: t, h => by
    have h1 := h d List.mem_cons_self
    have h2 := cdr_lt t (fun x hx => h x (List.mem_cons_of_mem _ hx))
    show d + 32 * cdr t < 32 ^ (t.length + 1)
    rw [Nat.pow_succ]
    omega
theorem cdr_get : ∀ (t : List Nat) (j : Nat), (∀ d ∈ t, d < 32) → cdr t / 32 ^ j % 32 = t.getD j 0
  | [], j, _ => by simp [cdr]
  | d :: t, 0, h => by
    have h1 := h d List.mem_cons_self
    show (d + 32 * cdr t) / 32 ^ 0 % 32 = d
    rw [Nat.pow_zero, Nat.div_one]
    omega
  | d :: t, j + 1, h => by
    have h1 := h d List.mem_cons_self
    show (d + 32 * cdr t) / 32 ^ (j + 1) % 32 = t.getD j 0
    rw [Nat.pow_succ', ← Nat.div_div_eq_div_mul, show (d + 32 * cdr t) / 32 = cdr t by omega]
    exact cdr_get t j (fun x hx => h x (List.mem_cons_of_mem _ hx))
def gL (l : List Nat) : Prop := 1 ≤ l.length ∧ l.length ≤ 8 ∧ ∀ d ∈ l, 1 ≤ d ∧ d ≤ 26
def cdn (l : List Nat) : Nat := cdr l.reverse
def cd (l : List Nat) : Int64 := lN (cdn l)
theorem gL_rev {l : List Nat} : gL l.reverse ↔ gL l := by simp [gL]
theorem cdn_lt {l : List Nat} (h : gL l) : cdn l < 1099511627776 := by
  have h1 := cdr_lt l.reverse (fun d hd => by have := (h.2.2 d (List.mem_reverse.mp hd)).2; omega)
  rw [List.length_reverse] at h1
  have h2 : 32 ^ l.length ≤ 32 ^ 8 := Nat.pow_le_pow_right (by decide) h.2.1
  have h3 : (32 : Nat) ^ 8 = 1099511627776 := by decide
  have h4 : cdn l = cdr l.reverse := rfl
  omega
theorem dg_cdn {f : Nat} {l : List Nat} (h : gL l) (hf : 8 ≤ f) : dg f (cdn l) = l.reverse :=
  dg_cdr f _ (by rw [List.length_reverse]; have := h.2.1; omega) (fun d hd => by have := h.2.2 d (List.mem_reverse.mp hd); omega)
theorem cdn_inj {l l' : List Nat} (h : gL l) (h' : gL l') (e : cdn l = cdn l') : l = l' := by
  have h1 := dg_cdn (f := 8) h (by decide)
  rw [e, dg_cdn h' (by decide)] at h1
  have := congrArg List.reverse h1
  simpa using this.symm
theorem cd_inj {l l' : List Nat} (h : gL l) (h' : gL l') : cd l = cd l' ↔ l = l' := by
  constructor
  · intro e
    exact cdn_inj h h' ((lN_inj (by have := cdn_lt h; omega) (by have := cdn_lt h'; omega)).mp e)
  · intro e
    rw [e]
theorem cdn_pos {l : List Nat} (h : gL l) : 0 < cdn l := by
  rcases Nat.eq_zero_or_pos (cdn l) with e | e
  · have h1 := dg_cdn (f := 8) h (by decide)
    rw [e, dg_0] at h1
    have h2 := congrArg List.length h1
    have := h.1
    simp at h2
    omega
  · exact e
def uW (w : Int64) : Nat := w.toBitVec.toNat
theorem uW_lt (w : Int64) : uW w < 2 ^ 64 := w.toBitVec.isLt
theorem lN_uW (w : Int64) : lN (uW w) = w := wb_inj (by rw [wb_tb]; simp [uW])
theorem uW_lN {n : Nat} (h : n < 2 ^ 64) : uW (lN n) = n := wb_tn h
def okB (t : List Nat) : Bool := decide (1 ≤ t.length) && (decide (t.length ≤ 8) && t.all (fun d => decide (1 ≤ d) && decide (d ≤ 26)))
theorem okB_iff {t : List Nat} : okB t = true ↔ gL t := by simp [okB, gL, List.all_eq_true]
/-- the word of a number, if it is one's -/
def pz (w : Int64) : Option (List Nat) := if okB (dg 13 (uW w)) then some (dg 13 (uW w)).reverse else none
theorem pz_cd {l : List Nat} (h : gL l) : pz (cd l) = some l := by
  have h1 : uW (cd l) = cdn l := uW_lN (by have := cdn_lt h; omega)
  unfold pz
  rw [h1, dg_cdn h (by decide), if_pos (okB_iff.mpr (gL_rev.mpr h)), List.reverse_reverse]
theorem pz_some {w : Int64} {l : List Nat} (h : pz w = some l) : gL l ∧ cd l = w := by
  unfold pz at h
  split at h
  · rename_i h1
    have h2 := okB_iff.mp h1
    cases h
    refine ⟨gL_rev.mpr h2, ?_⟩
    unfold cd cdn
    rw [List.reverse_reverse, cdr_dg 13 _ (Nat.lt_of_lt_of_le (uW_lt w) (by decide)), lN_uW]
  · cases h
/-! the order of words -/
def wlt : List Nat → List Nat → Bool
  | _, [] => false
  | [], _ :: _ => true
  | a :: s, b :: t => if a < b then true else if b < a then false else wlt s t
theorem wlt_irr : ∀ l, wlt l l = false
  | [] => rfl
  | a :: s => by simp [wlt, wlt_irr s]
theorem wlt_tri : ∀ s t, wlt s t = false → wlt t s = false → s = t
  | [], [], _, _ => rfl
  | [], b :: t, h, _ => by simp [wlt] at h
  | a :: s, [], _, h => by simp [wlt] at h
  | a :: s, b :: t, h, h' => by
    simp only [wlt] at h h'
    by_cases h1 : a < b
    · simp [h1] at h
    · by_cases h2 : b < a
      · simp [h2] at h'
      · simp only [h1, h2, if_false] at h h'
        rw [wlt_tri s t h h', show a = b by omega]
theorem wlt_tr : ∀ s t u, wlt s t = true → wlt t u = true → wlt s u = true
  | _, [], _, h, _ => by simp [wlt] at h
  | _, b :: t, [], _, h => by simp [wlt] at h
  | [], b :: t, c :: u, _, _ => rfl
  | a :: s, b :: t, c :: u, h, h' => by
    simp only [wlt] at h h' ⊢
    by_cases h1 : a < b
    · by_cases h3 : b < c
      · rw [if_pos (by omega)]
      · by_cases h4 : c < b
        · simp [h3, h4] at h'
        · rw [if_pos (by omega)]
    · by_cases h2 : b < a
      · simp [h1, h2] at h
      · simp only [h1, h2, if_false] at h
        by_cases h3 : b < c
        · rw [if_pos (by omega)]
        · by_cases h4 : c < b
          · simp [h3, h4] at h'
          · simp only [h3, h4, if_false] at h'
            rw [if_neg (by omega), if_neg (by omega)]
            exact wlt_tr s t u h h'
theorem wlt_asy {s t : List Nat} (h : wlt s t = true) : wlt t s = false := by
  cases e : wlt t s with
  | false => rfl
  | true =>
    have := wlt_tr s t s h e
    rw [wlt_irr] at this
    cases this
theorem wlt_ne {s t : List Nat} (h : wlt s t = true) : s ≠ t := by
  intro e
  rw [e, wlt_irr] at h
  cases h
/-- what a comparison answers -/
def cmpR (z : Int32) (l l' : List Nat) : Prop := (z = 0 ↔ l = l') ∧ (z < 0 ↔ wlt l l' = true)
theorem cmpR_c {z : Int32} {a : Nat} {s t : List Nat} (h : cmpR z s t) : cmpR z (a :: s) (a :: t) := by
  refine ⟨h.1.trans (by simp), h.2.trans ?_⟩
  simp [wlt]
theorem cmpR.gt {z : Int32} {l l' : List Nat} (h : cmpR z l l') : 0 < z ↔ wlt l' l = true := by
  constructor
  · intro hz
    cases e : wlt l' l with
    | true => rfl
    | false =>
      exfalso
      cases e' : wlt l l' with
      | true =>
        have := h.2.mpr e'
        have h1 := Int32.lt_iff_toInt_lt.mp hz
        have h2 := Int32.lt_iff_toInt_lt.mp this
        omega
      | false =>
        have := h.1.mpr (wlt_tri _ _ e' e)
        rw [this] at hz
        exact absurd hz (by decide)
  · intro hz
    have h1 : ¬ z = 0 := fun e => absurd (h.1.mp e).symm (wlt_ne hz)
    have h2 : ¬ z < 0 := fun e => by
      have := wlt_asy (h.2.mp e)
      rw [hz] at this
      cases this
    rw [Int32.lt_iff_toInt_lt]
    have h3 : ¬ z.toInt < (0 : Int32).toInt := fun e => h2 (Int32.lt_iff_toInt_lt.mpr e)
    have h4 : z.toInt ≠ (0 : Int32).toInt := fun e => h1 (Int32.toInt_inj.mp e)
    omega
/-! ===== the cells of words ===== -/
def pW (o : gO) (G : hG) (a : Nat) (l : List Nat) : Prop := hC G a = some (4, true) ∧ o a = (0, 0) ∧ hJ G a 0 = cd l ∧ hI G a 1 = nI l.length ∧ gL l
theorem pW.fr {M : Nat × Nat → Prop} {o o' : gO} {G G' : hG} {a : Nat} {l : List Nat} (h : pW o G a l) (hf : gFr M o G o' G') (h0 : ¬ M (0, 0)) : pW o' G' a l := by
  obtain ⟨h1, h2, h3, h4, h5⟩ := h
  have s := hf.S h1 h2 h0
  exact ⟨hf.C h1, (hf.O h1).trans h2, s.J h3, s.I h4, h5⟩
theorem bS_len {n : Nat} (h : n < 2 ^ 64) : dg 13 n = [] ↔ n = 0 := by
  constructor
  · intro e
    have := cdr_dg 13 n (Nat.lt_of_lt_of_le h (by decide))
    rw [e] at this
    exact this.symm
  · intro e
    rw [e, dg_0]
theorem d5 (n : Nat) : n / 2 ^ 5 = n / 32 := rfl
theorem s_inRange {Q : hG → Int32 → Prop} {G : hG} {v lo hi : Int64} (h1 : lo ≤ v → v ≤ hi → Q G 1) (h0 : ¬ (lo ≤ v ∧ v ≤ hi) → Q G 0) : wX1_inRange Q v lo hi G := by
  unfold wX1_inRange
  refine ⟨fun c => ⟨hft0, h0 fun z => Int64.not_lt.mpr z.1 c⟩, fun c => ⟨fun c2 => ⟨hft0, h0 fun z => Int64.not_lt.mpr z.2 c2⟩, fun c2 => ⟨hft1, h1 (Int64.not_lt.mp c) (Int64.not_lt.mp c2)⟩⟩⟩
theorem s_lengthOf_l {Q : hG → Int32 → Prop} {G : hG} : ∀ (f m j : Nat), m < 32 ^ f → m < 2 ^ 64 → j ≤ 9 → Q G (nI (min 9 (j + (dg f m).length))) → ∃ n, wX5_lengthOf_l4 Q n (nI j) (lN m) G := by
  intro f
  induction f with
  | zero =>
    intro m j hm _ hj hQ
    have h0 : m = 0 := by simpa using hm
    subst h0
    refine ⟨1, ?_⟩
    show wX5_lengthOf_b4 Q _ _ _ _
    unfold wX5_lengthOf_b4
    refine br_t rfl ?_
    rw [dg_0, List.length_nil, Nat.add_zero, Nat.min_eq_right hj] at hQ
    exact hQ
  | succ f ih =>
    intro m j hm h64 hj hQ
    by_cases e : m = 0
    · subst e
      refine ⟨1, ?_⟩
      show wX5_lengthOf_b4 Q _ _ _ _
      unfold wX5_lengthOf_b4
      refine br_t rfl ?_
      rw [dg_0, List.length_nil, Nat.add_zero, Nat.min_eq_right hj] at hQ
      exact hQ
    · rw [dg_s e, List.length_cons] at hQ
      by_cases h9 : 8 < j
      · refine ⟨1, ?_⟩
        show wX5_lengthOf_b4 Q _ _ _ _
        unfold wX5_lengthOf_b4
        refine br_f (fun z => e ((l0n h64).mp z)) (br_t ((nI_ltI (by decide) (by omega)).mpr h9) ?_)
        rw [show min 9 (j + ((dg f (m / 32)).length + 1)) = j by omega] at hQ
        exact hQ
      · obtain ⟨n, hn⟩ := ih (m / 32) (j + 1) (by rw [Nat.pow_succ] at hm; omega) (by omega) (by omega) (by rw [show j + 1 + (dg f (m / 32)).length = j + ((dg f (m / 32)).length + 1) by omega]; exact hQ)
        refine ⟨n + 1, ?_⟩
        show wX5_lengthOf_b4 Q (wX5_lengthOf_l4 Q n) _ _ _
        unfold wX5_lengthOf_b4
        refine br_f (fun z => e ((l0n h64).mp z)) (br_f (fun z => h9 ((nI_ltI (by decide) (by omega)).mp z)) ?_)
        refine hlet_i ?_
        rw [show (5 : Int32) = nI 5 from rfl, wb_shr h64 (by decide), d5, show nI j + 1 = nI (j + 1) from nI_1 j]
        exact hn
theorem s_lengthOf {Q : hG → Int32 → Prop} {G : hG} {w : Int64} (hQ : Q G (nI (min 9 (dg 13 (uW w)).length))) : wX5_lengthOf Q w G := by
  have h := uW_lt w
  have := s_lengthOf_l (Q := Q) (G := G) 13 (uW w) 0 (Nat.lt_of_lt_of_le h (by decide)) h (by decide) (by rw [Nat.zero_add]; exact hQ)
  rw [lN_uW] at this
  exact this
theorem get_dg {n k : Nat} (h : n < 2 ^ 64) : n / 32 ^ k % 32 = (dg 13 n).getD k 0 := by
  have h1 := cdr_get (dg 13 n) k (dg_lt 13 n)
  rw [cdr_dg 13 n (Nat.lt_of_lt_of_le h (by decide))] at h1
  exact h1
theorem p32 (k : Nat) : 2 ^ (5 * k) = 32 ^ k := by rw [Nat.pow_mul]
theorem s_isWord_l {Q : hG → Int32 → Prop} {G : hG} {m L : Nat} (hm : m < 2 ^ 64) (hL : L ≤ 9) : ∀ (d k : Nat) (b : Bool), k + d = L → (b = true → L ≤ 8) → (∀ r : Bool, (r = true ↔ (b = true ∧ ∀ i, k ≤ i → i < L → 1 ≤ (dg 13 m).getD i 0 ∧ (dg 13 m).getD i 0 ≤ 26)) → Q G (if r then 1 else 0)) → ∃ n, wX5_isWord_l13 Q n (lN m) (nI L) (if b then 1 else 0) (nI k) G := by
  intro d
  induction d with
  | zero =>
    intro k b hk hb hQ
    refine ⟨1, ?_⟩
    show wX5_isWord_b13 Q _ _ _ _ _ _
    unfold wX5_isWord_b13
    refine br_t (nI_le (by omega) (by omega)) ?_
    have hQ := hQ b ⟨fun h => ⟨h, fun i h1 h2 => by omega⟩, fun h => h.1⟩
    refine ⟨?_, hQ⟩
    cases b
    · exact hft0
    · exact hft1
  | succ d ih =>
    intro k b hk hb hQ
    have hc : nI k + 1 = nI (k + 1) := nI_1 k
    cases b with
    | false =>
      obtain ⟨n, hn⟩ := ih (k + 1) false (by omega) (fun h => by cases h) (fun r hr => hQ r ⟨fun h => absurd (hr.mp h).1 (by decide), fun h => absurd h.1 (by decide)⟩)
      refine ⟨n + 1, ?_⟩
      show wX5_isWord_b13 Q (wX5_isWord_l13 Q n) _ _ _ _ _
      unfold wX5_isWord_b13
      refine br_f (nI_ge (by omega) (by omega)) (br_t rfl ?_)
      unfold wX5_isWord_b47 wX5_isWord_b48
      rw [hc]
      exact hn
    | true =>
      have h8 := hb rfl
      have hv : ((lN m).toUInt64 >>> ((((5 : Int32) * nI k)).toInt64.toUInt64 &&& Int64.toUInt64 63)).toInt64 &&& (31 : Int64) = lN ((dg 13 m).getD k 0) := by
        rw [show (5 : Int32) = nI 5 from rfl, pk_mul, wb_shr hm (by omega), show (31 : Int64) = lN (2 ^ 5 - 1) from rfl, wb_mask (Nat.lt_of_le_of_lt (Nat.div_le_self _ _) hm) (by decide), p32, show (2 : Nat) ^ 5 = 32 from rfl, get_dg hm]
      have hd : (dg 13 m).getD k 0 < 32 := by
        rw [← get_dg hm]
        exact Nat.mod_lt _ (by decide)
      by_cases hok : 1 ≤ (dg 13 m).getD k 0 ∧ (dg 13 m).getD k 0 ≤ 26
      · obtain ⟨n, hn⟩ := ih (k + 1) true (by omega) (fun _ => h8) (fun r hr => hQ r (hr.trans ⟨fun h => ⟨rfl, fun i h1 h2 => by
          rcases Nat.eq_or_lt_of_le h1 with z | z
          · rw [← z]
            exact hok
          · exact h.2 i z h2⟩, fun h => ⟨rfl, fun i h1 h2 => h.2 i (by omega) h2⟩⟩))
        refine ⟨n + 1, ?_⟩
        show wX5_isWord_b13 Q (wX5_isWord_l13 Q n) _ _ _ _ _
        unfold wX5_isWord_b13
        refine br_f (nI_ge (by omega) (by omega)) (br_f (by decide) ?_)
        rw [hv]
        refine s_inRange (fun _ _ => br_f (by decide) ?_) (fun z => absurd ⟨(lN_le (a := 1) (by decide) (by omega)).mpr hok.1, (lN_le (b := 26) (by omega) (by decide)).mpr hok.2⟩ z)
        unfold wX5_isWord_b48
        rw [hc]
        exact hn
      · obtain ⟨n, hn⟩ := ih (k + 1) false (by omega) (fun h => by cases h) (fun r hr => hQ r ⟨fun h => absurd (hr.mp h).1 (by decide), fun h => absurd (h.2 k (Nat.le_refl _) (by omega)) hok⟩)
        refine ⟨n + 1, ?_⟩
        show wX5_isWord_b13 Q (wX5_isWord_l13 Q n) _ _ _ _ _
        unfold wX5_isWord_b13
        refine br_f (nI_ge (by omega) (by omega)) (br_f (by decide) ?_)
        rw [hv]
        refine s_inRange (fun z1 z2 => absurd ⟨(lN_le (a := 1) (by decide) (by omega)).mp z1, (lN_le (b := 26) (by omega) (by decide)).mp z2⟩ hok) (fun _ => br_t rfl ?_)
        unfold wX5_isWord_b47 wX5_isWord_b48
        rw [hc]
        exact hn
theorem all_getD {t : List Nat} : (∀ i, 0 ≤ i → i < t.length → 1 ≤ t.getD i 0 ∧ t.getD i 0 ≤ 26) ↔ ∀ d ∈ t, 1 ≤ d ∧ d ≤ 26 := by
  constructor
  · intro h d hd
    obtain ⟨i, hi, e⟩ := List.getElem_of_mem hd
    have := h i (Nat.zero_le _) hi
    rw [List.getD_eq_getElem?_getD, List.getElem?_eq_getElem hi, e] at this
    exact this
  · intro h i _ hi
    rw [List.getD_eq_getElem?_getD, List.getElem?_eq_getElem hi]
    exact h _ (List.getElem_mem hi)
theorem s_isWord {Q : hG → Int32 → Prop} {G : hG} {w : Int64} (hQ : Q G (if (pz w).isSome then 1 else 0)) : wX5_isWord Q w (nI (min 9 (dg 13 (uW w)).length)) G := by
  unfold wX5_isWord
  have hw := uW_lt w
  obtain ⟨m, hm⟩ : ∃ m, m = uW w := ⟨_, rfl⟩
  have hwm : w = lN m := by rw [hm, lN_uW]
  rw [← hm] at hw ⊢
  have hp : (pz w).isSome = okB (dg 13 m) := by
    unfold pz
    rw [← hm]
    cases okB (dg 13 m) <;> rfl
  rw [hp] at hQ
  obtain ⟨t, ht⟩ : ∃ t, t = dg 13 m := ⟨_, rfl⟩
  have key : ∀ (b : Bool), (b = true ↔ (1 ≤ min 9 t.length ∧ min 9 t.length ≤ 8)) → ∃ n, wX5_isWord_l13 Q n w (nI (min 9 t.length)) (if b then 1 else 0) (0 : Int32) G := by
    intro b hb
    rw [hwm, ht]
    refine s_isWord_l hw (by omega) (min 9 (dg 13 m).length) 0 b (by omega) (fun h => ?_) (fun r hr => ?_)
    · rw [← ht]
      exact (hb.mp h).2
    · rw [← ht] at hQ hr
      have e : okB t = r := by
        rw [Bool.eq_iff_iff, okB_iff, hr, hb]
        by_cases h8 : t.length ≤ 8
        · rw [Nat.min_eq_right (by omega), all_getD]
          unfold gL
          exact ⟨fun h => ⟨⟨h.1, h.2.1⟩, h.2.2⟩, fun h => ⟨h.1.1, h.1.2, h.2⟩⟩
        · exact ⟨fun h => absurd h.2.1 h8, fun h => by omega⟩
      rw [e] at hQ
      exact hQ
  rw [← ht]
  have hl : (nI (min 9 t.length)).toInt64 = lN (min 9 t.length) := nI_l (by omega)
  rw [hl]
  refine s_inRange (fun h1 h2 => key true ?_) (fun z => key false ?_)
  · exact ⟨fun _ => ⟨(lN_le (a := 1) (by decide) (by omega)).mp h1, (lN_le (b := 8) (by omega) (by decide)).mp h2⟩, fun _ => rfl⟩
  · exact ⟨fun h => absurd h (by decide), fun h => absurd ⟨(lN_le (a := 1) (by decide) (by omega)).mpr h.1, (lN_le (b := 8) (by omega) (by decide)).mpr h.2⟩ z⟩
/-- new Letters(w): its cell -/
def gNW (G : hG) (a : Nat) (w : Int64) : hG := hsI (hsJ G a 0 w) a 1 (nI (min 9 (dg 13 (uW w)).length))
theorem gNW_at {G : hG} {a : Nat} {w : Int64} {l : List Nat} {o : gO} (hz : pz w = some l) (hc : hC G a = some (4, true)) (ho : o a = (0, 0)) : pW o (gNW G a w) a l := by
  obtain ⟨h1, h2⟩ := pz_some hz
  refine ⟨hc, ho, ?_, ?_, h1⟩
  · show hJ (hsJ G a 0 w) a 0 = _
    rw [hJ_sJ, if_pos ⟨rfl, rfl⟩, h2]
  · unfold gNW
    rw [hI_sI, if_pos ⟨rfl, rfl⟩]
    have h3 : uW w = cdn l := by
      rw [← h2]
      exact uW_lN (by have := cdn_lt h1; omega)
    rw [h3, dg_cdn h1 (by decide), List.length_reverse, Nat.min_eq_right (by have := h1.2.1; omega)]
theorem s_Letters {Q : hG → Prop} {X : Bool → hG → Prop} {G : hG} {a : Nat} {w : Int64} (hc : hC G a = some (4, true)) (hX : pz w = none → X false (gNW G a w)) (hQ : ∀ l, pz w = some l → Q (gNW G a w)) : wX5_init Q X a w G := by
  unfold wX5_init
  refine ⟨hc, hlet_i ?_⟩
  refine s_lengthOf ⟨hc, hlet_i ⟨hclt hc, ?_⟩⟩
  rw [hI_sI, if_pos ⟨rfl, rfl⟩]
  refine s_isWord ?_
  unfold wX1_requireArgument
  cases e : pz w with
  | none => exact br_t rfl (hX e)
  | some l => exact br_f (show ¬ (1 : Int32) = 0 by decide) (hQ l e)
theorem rev_get {l : List Nat} {k : Nat} (h : k < l.length) : l.reverse.getD (l.length - 1 - k) 0 = l.getD k 0 := by
  rw [List.getD_eq_getElem?_getD, List.getD_eq_getElem?_getD, List.getElem?_reverse (by omega)]
  congr 2
  omega
theorem s_charAt {Q : hG → Int32 → Prop} {o : gO} {G : hG} {a k : Nat} {l : List Nat} (h : pW o G a l) (hk : k < l.length) (hQ : Q G (nI (96 + l.getD k 0))) : wX5_charAt Q a (nI k) G := by
  obtain ⟨h1, -, h3, h4, h5⟩ := h
  have hl := h5.2.1
  have hn := cdn_lt h5
  have e : (((((((96 : Int64) + ((((hJ G a 0)).toUInt64 >>> ((((5 : Int32) * (((hI G a 1) - (1 : Int32)) - nI k))).toInt64.toUInt64 &&& Int64.toUInt64 63)).toInt64 &&& (31 : Int64)))).toInt32)).toUInt32 % 65536).toInt32) = nI (96 + l.getD k 0) := by
    have hd : l.getD k 0 < 32 := by
      rw [List.getD_eq_getElem?_getD, List.getElem?_eq_getElem hk]
      have := h5.2.2 _ (List.getElem_mem hk)
      show l[k] < 32
      omega
    rw [h3, h4, show (1 : Int32) = nI 1 from rfl, nI_sub (by omega), nI_sub (by omega), show (5 : Int32) = nI 5 from rfl, pk_mul]
    unfold cd
    rw [wb_shr (by omega) (by omega), show (31 : Int64) = lN (2 ^ 5 - 1) from rfl, wb_mask (Nat.lt_of_le_of_lt (Nat.div_le_self _ _) (by omega)) (by decide), p32, show (2 : Nat) ^ 5 = 32 from rfl]
    unfold cdn
    rw [cdr_get _ _ (fun d hd => by have := h5.2.2 d (List.mem_reverse.mp hd); omega), rev_get hk, show (96 : Int64) = lN 96 from rfl, lN_add, lN_i, pk_char, pk_tn (by omega), Nat.mod_eq_of_lt (by omega)]
  unfold wX5_charAt
  rw [e]
  refine ⟨hclt h1, hclt h1, ?_, hQ⟩
  rw [← e]
  exact ⟨pk_nc _, pk_fc _⟩
theorem s_icmp {Q : hG → Int32 → Prop} {G : hG} {x y : Int32} (h0 : x = y → Q G 0) (h1 : y < x → Q G 1) (h2 : x < y → Q G (-1)) : wJ20_compare Q x y G := by
  unfold wJ20_compare
  refine ⟨fun c => ⟨fun e => h0 e, fun e => h1 ?_⟩, fun c => h2 (Int32.not_le.mp c)⟩
  rw [Int32.lt_iff_toInt_lt]
  have h3 := Int32.le_iff_toInt_le.mp c
  have h4 : x.toInt ≠ y.toInt := fun z => e (Int32.toInt_inj.mp z)
  omega
theorem s_compareTo_l {Q : hG → Int32 → Prop} {o : gO} {G : hG} {a b : Nat} {l l' : List Nat} (h : pW o G a l) (h' : pW o G b l') : ∀ (d k : Nat), k + d = l.length → k ≤ l'.length → (∀ z, cmpR z (l.drop k) (l'.drop k) → Q G z) → ∃ n, wX5_compareTo_2_l2 Q n a b (nI k) G := by
  have ha := h.1
  have hb := h'.1
  have hl := h.2.2.2.2.2.1
  have hl' := h'.2.2.2.2.2.1
  have ea := h.2.2.2.1
  have eb := h'.2.2.2.1
  intro d
  induction d with
  | zero =>
    intro k hk hk' hQ
    refine ⟨1, ?_⟩
    show wX5_compareTo_2_b2 Q _ _ _ _ _
    unfold wX5_compareTo_2_b2
    refine ⟨hclt ha, br_t (by rw [ea]; exact nI_le (by omega) (by omega)) ?_⟩
    unfold wX5_compareTo_2_b37
    refine ⟨hclt ha, br_t (by rw [ea, show k = l.length by omega]) ?_⟩
    unfold wX5_compareTo_2_b53 wX5_compareTo_2_b58
    refine br_f (by decide) ⟨hclt ha, hclt hb, ?_⟩
    have e1 : l.drop k = [] := List.drop_eq_nil_of_le (by omega)
    rw [ea, eb]
    refine s_icmp (fun e => hQ _ ?_) (fun e => ?_) (fun e => hQ _ ?_)
    · have e2 := (nI_eq (by omega) (by omega)).mp e
      rw [e1, List.drop_eq_nil_of_le (show l'.length ≤ k by omega)]
      exact ⟨by simp, by simp [wlt]⟩
    · have := (nI_ltI (by omega) (by omega)).mp e
      omega
    · have e2 := (nI_ltI (by omega) (by omega)).mp e
      rw [e1, List.drop_eq_getElem_cons (show k < l'.length by omega)]
      exact ⟨⟨fun z => absurd z (by decide), fun z => by cases z⟩, ⟨fun _ => rfl, fun _ => by decide⟩⟩
  | succ d ih =>
    intro k hk hk' hQ
    by_cases hz : k = l'.length
    · refine ⟨1, ?_⟩
      show wX5_compareTo_2_b2 Q _ _ _ _ _
      unfold wX5_compareTo_2_b2
      refine ⟨hclt ha, br_f (by rw [ea]; exact nI_ge (by omega) (by omega)) ⟨hclt hb, br_t (by rw [eb]; exact nI_le (by omega) (by omega)) ?_⟩⟩
      unfold wX5_compareTo_2_b37
      refine ⟨hclt ha, br_f (by rw [ea, nI_eq (by omega) (by omega)]; omega) ⟨hclt hb, br_t (by rw [eb, hz]) ?_⟩⟩
      unfold wX5_compareTo_2_b53 wX5_compareTo_2_b58
      refine br_f (by decide) ⟨hclt ha, hclt hb, ?_⟩
      rw [ea, eb]
      refine s_icmp (fun e => ?_) (fun e => hQ _ ?_) (fun e => ?_)
      · have := (nI_eq (by omega) (by omega)).mp e
        omega
      · rw [List.drop_eq_nil_of_le (show l'.length ≤ k by omega), List.drop_eq_getElem_cons (show k < l.length by omega)]
        exact ⟨⟨fun z => absurd z (by decide), fun z => by cases z⟩, ⟨fun z => absurd z (by decide), fun z => by simp [wlt] at z⟩⟩
      · have := (nI_ltI (by omega) (by omega)).mp e
        omega
    · have k1 : k < l.length := by omega
      have k2 : k < l'.length := by omega
      have g1 : l.getD k 0 = l[k] := by rw [List.getD_eq_getElem?_getD, List.getElem?_eq_getElem k1]; rfl
      have g2 : l'.getD k 0 = l'[k] := by rw [List.getD_eq_getElem?_getD, List.getElem?_eq_getElem k2]; rfl
      have b1 := (h.2.2.2.2.2.2 _ (List.getElem_mem k1)).2
      have b2 := (h'.2.2.2.2.2.2 _ (List.getElem_mem k2)).2
      rw [List.drop_eq_getElem_cons k1, List.drop_eq_getElem_cons k2] at hQ
      by_cases he : l[k] = l'[k]
      · obtain ⟨n, hn⟩ := ih (k + 1) (by omega) (by omega) (fun z hz => hQ z (by rw [he]; exact cmpR_c hz))
        refine ⟨n + 1, ?_⟩
        show wX5_compareTo_2_b2 Q (wX5_compareTo_2_l2 Q n) _ _ _ _
        unfold wX5_compareTo_2_b2
        refine ⟨hclt ha, br_f (by rw [ea]; exact nI_ge (by omega) (by omega)) ⟨hclt hb, br_f (by rw [eb]; exact nI_ge (by omega) (by omega)) ⟨hclt ha, ?_⟩⟩⟩
        refine s_charAt h k1 ⟨hclt hb, s_charAt h' k2 (br_t (by rw [g1, g2, he]) ?_)⟩
        rw [show nI k + 1 = nI (k + 1) from nI_1 k]
        exact hn
      · refine ⟨1, ?_⟩
        show wX5_compareTo_2_b2 Q _ _ _ _ _
        unfold wX5_compareTo_2_b2
        refine ⟨hclt ha, br_f (by rw [ea]; exact nI_ge (by omega) (by omega)) ⟨hclt hb, br_f (by rw [eb]; exact nI_ge (by omega) (by omega)) ⟨hclt ha, ?_⟩⟩⟩
        refine s_charAt h k1 ⟨hclt hb, s_charAt h' k2 (br_f (by rw [g1, g2, nI_eq (by omega) (by omega)]; omega) ?_)⟩
        unfold wX5_compareTo_2_b37
        refine ⟨hclt ha, br_f (by rw [ea, nI_eq (by omega) (by omega)]; omega) ⟨hclt hb, br_f (by rw [eb, nI_eq (by omega) (by omega)]; omega) ?_⟩⟩
        unfold wX5_compareTo_2_b58
        refine br_t rfl ⟨hclt ha, s_charAt h k1 ⟨hclt hb, s_charAt h' k2 ?_⟩⟩
        rw [g1, g2]
        refine hQ _ ?_
        have e1 : (nI (96 + l[k]) - nI (96 + l'[k])).toInt = ((96 + l[k] : Nat) : Int) - ((96 + l'[k] : Nat) : Int) := pk_sub_toInt (by omega) (by omega)
        refine ⟨⟨fun z => ?_, fun z => ?_⟩, ?_⟩
        · rw [z] at e1
          have : (0 : Int32).toInt = 0 := rfl
          omega
        · exact absurd (List.cons.inj z).1 he
        · rw [Int32.lt_iff_toInt_lt, e1, show (0 : Int32).toInt = 0 from rfl]
          simp only [wlt]
          by_cases c1 : l[k] < l'[k]
          · rw [if_pos c1]
            exact ⟨fun _ => rfl, fun _ => by omega⟩
          · rw [if_neg c1, if_pos (by omega)]
            exact ⟨fun _ => by omega, fun z => by cases z⟩
theorem s_compareTo {Q : hG → Int32 → Prop} {o : gO} {G : hG} {a b : Nat} {l l' : List Nat} (h : pW o G a l) (h' : pW o G b l') (hQ : ∀ z, cmpR z l l' → Q G z) : wX5_compareTo Q a (some b) G := by
  unfold wX5_compareTo
  refine ⟨fun y e => ?_, b, rfl, hclt h.1, ?_⟩
  · cases e
    exact hclt h'.1
  · exact s_compareTo_l h h' l.length 0 (by omega) (by omega) (fun z hz => hQ z hz)
theorem s_equals {Q : hG → Int32 → Prop} {o : gO} {G : hG} {a b : Nat} {l l' : List Nat} (h : pW o G a l) (h' : pW o G b l') (hQ : Q G (if l = l' then 1 else 0)) : wX5_equals Q a (some b) G := by
  unfold wX5_equals
  refine ⟨b, rfl, hclt h'.1, br_f (by decide) ⟨hclt h'.1, hclt h'.1, hclt h.1, ?_⟩⟩
  rw [h.2.2.1, h'.2.2.1]
  refine ⟨fun e => ⟨hft1, ?_⟩, fun e => ⟨hft0, ?_⟩⟩
  · rw [if_pos ((cd_inj h'.2.2.2.2 h.2.2.2.2).mp e).symm] at hQ
    exact hQ
  · rw [if_neg (fun z => e (by rw [z]))] at hQ
    exact hQ
