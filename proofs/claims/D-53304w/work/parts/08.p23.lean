/-! ===== plain law 23: constant texts; keys ===== -/
set_option maxRecDepth 100000
/-- a constant String -/
def pSC (o : gO) (G : hG) (a : Nat) (l : List Nat) : Prop := hC G a = some (21, false) ∧ o a = (0, 0) ∧ hI G a 1 = 0 ∧ (∃ r, hR G a 0 = some r ∧ hC G r = some (102, false) ∧ o r = (0, 0) ∧ hN G r = l.length ∧ ∀ k, k < l.length → hI G r k = nI (l.getD k 0)) ∧ l.length ≤ 100 ∧ ∀ c, c ∈ l → c < 128
theorem pSC.fr {M : Nat × Nat → Prop} {o o' : gO} {G G' : hG} {a : Nat} {l : List Nat} (h : pSC o G a l) (hf : gFr M o G o' G') (h0 : ¬ M (0, 0)) : pSC o' G' a l := by
  obtain ⟨h1, h2, h3, ⟨r, h4, h5, h6, h7, h8⟩, h9, h10⟩ := h
  have s := hf.S h1 h2 h0
  have s2 := hf.S h5 h6 h0
  exact ⟨hf.C h1, (hf.O h1).trans h2, s.I h3, ⟨r, s.R h4, hf.C h5, (hf.O h5).trans h6, s2.N h7, fun k hk => s2.I (h8 k hk)⟩, h9, h10⟩
def kTx : List (Nat × List Nat) := [(100, [119, 111, 114, 100]), (101, [115, 116, 105, 99, 107]), (102, [97, 108, 108, 111, 119]), (103, [115, 101, 116]), (104, [100, 114, 111, 112]), (105, [110, 97, 109, 101]), (106, [116, 121, 112, 101]), (107, [98, 97, 99, 107]), (108, [119, 110]), (109, [119, 119]), (110, [110, 110]), (111, [119]), (112, []), (128, [113, 119, 101, 114, 116, 121, 117, 105, 111, 112]), (129, [97, 115, 100, 102, 103, 104, 106, 107, 108]), (130, [122, 120, 99, 118, 98, 110, 109]), (132, [])]
def kS (o : gO) (G : hG) : Prop := ∀ t, t ∈ kTx → pSC o G (hK G t.1) t.2
theorem kS.fr {M : Nat × Nat → Prop} {o o' : gO} {G G' : hG} (h : kS o G) (hf : gFr M o G o' G') (h0 : ¬ M (0, 0)) : kS o' G' := fun t ht => by
  rw [hf.2]
  exact (h t ht).fr hf h0
/-- all that is known of the constants -/
def kC (o : gO) (G : hG) : Prop := kA o G ∧ kIc o G ∧ kS o G
theorem kC.fr {M : Nat × Nat → Prop} {o o' : gO} {G G' : hG} (h : kC o G) (hf : gFr M o G o' G') (h0 : ¬ M (0, 0)) : kC o' G' := ⟨h.1.fr hf h0, h.2.1.fr hf h0, h.2.2.fr hf h0⟩
section P23
variable {o : gO} {G : hG} {a : Nat} {l : List Nat}
theorem s_slen {Q : hG → Int32 → Prop} (h : pSC o G a l) (hQ : Q G (nI l.length)) : wJ12_length Q a G := by
  obtain ⟨h1, h2, h3, ⟨r, h4, h5, h6, h7, h8⟩, h9, h10⟩ := h
  unfold wJ12_length
  refine ⟨hclf h1, hlet_i ⟨r, h4, hclf h5, hclf h1, ?_⟩⟩
  unfold wJ12_coder
  refine br_f (by decide) ⟨hclf h1, ?_⟩
  rw [h3, h7]
  refine ⟨⟨rfl, rfl⟩, ?_⟩
  show Q G (nI l.length >>> ((0 : Int32) &&& 31))
  rw [sb_shr0]
  exact hQ
theorem s_scharAt {Q : hG → Int32 → Prop} {k : Nat} (h : pSC o G a l) (hk : k < l.length) (hQ : Q G (nI (l.getD k 0))) : wJ12_charAt Q a (nI k) G := by
  obtain ⟨h1, h2, h3, ⟨r, h4, h5, h6, h7, h8⟩, h9, h10⟩ := h
  have hc : l.getD k 0 < 128 := by
    rw [List.getD_eq_getElem?_getD, List.getElem?_eq_getElem hk]
    exact h10 _ (List.getElem_mem hk)
  unfold wJ12_charAt wJ12_isLatin1 wJ12_isLatin1_b17 wJ12_isLatin1_b18
  refine ⟨hclf h1, br_f (by decide) ⟨hclf h1, br_t h3 ⟨hft1, br_f (by decide) ⟨hclf h1, hlet_i ⟨r, h4, ?_⟩⟩⟩⟩⟩
  unfold wJ13_charAt wJ12_checkIndex
  refine ⟨hclf h5, fun y => ?_⟩
  unfold wJ29_checkIndex
  rw [h7]
  have e : ((((hI G r (Int32.toNatClampNeg (nI k))) &&& (255 : Int32))).toUInt32 % 65536).toInt32 = nI (l.getD k 0) := by
    rw [nI_clamp (by omega), h8 k hk, pk_andN (by omega) (m := 255) 8 (by decide), Nat.mod_eq_of_lt (by omega), pk_char, pk_tn (by omega), Nat.mod_eq_of_lt (by omega)]
  refine br_f (nI_pos (by omega)) (br_t (nI_lt hk (by omega)) ⟨hclf h5, by rw [h7]; exact vp_in_nI hk (by omega), ?_⟩)
  rw [e]
  have hf9 : hFt .char (nI (l.getD k 0)) := pk_charN (by omega)
  exact ⟨hf9, hf9, hQ⟩
end P23
/-- the first place of a sign -/
def idF (c : Nat) : List Nat → Nat → Option Nat
  | [], _ => none
  | x :: l, k => if x = c then some k else idF c l (k + 1)
def kRow (r : Nat) : List Nat := if r = 0 then [113, 119, 101, 114, 116, 121, 117, 105, 111, 112] else if r = 1 then [97, 115, 100, 102, 103, 104, 106, 107, 108] else [122, 120, 99, 118, 98, 110, 109]
theorem s_row {Q : hG → Option Nat → Prop} {o : gO} {G : hG} {r : Nat} (hr : r < 3) (hk : kS o G) (hQ : ∀ a, pSC o G a (kRow r) → Q G (some a)) : wX8_row Q (nI r) G := by
  unfold wX8_row wX8_row_b40
  have hz : r = 0 ∨ r = 1 ∨ r = 2 := by omega
  rcases hz with z | z | z <;> subst z
  · exact ⟨fun _ => hQ _ (hk (128, _) (by simp [kTx])), fun c => absurd c (by decide), fun c => absurd rfl c.1⟩
  · exact ⟨fun c => absurd c (by decide), fun _ => hQ _ (hk (129, _) (by simp [kTx])), fun c => absurd rfl c.2⟩
  · exact ⟨fun c => absurd c (by decide), fun c => absurd c (by decide), fun _ => hQ _ (hk (130, _) (by simp [kTx]))⟩
theorem s_columnIn {Q : hG → Int32 → Prop} {o : gO} {G : hG} {r c : Nat} (hr : r < 3) (hc : c < 65536) (hk : kS o G) (hQ : Q G (ix (idF c (kRow r) 0))) : wX8_columnIn Q (nI r) (nI c) G := by
  unfold wX8_columnIn
  refine s_row hr hk fun a ha => ?_
  have hl : (kRow r).length ≤ 100 := ha.2.2.2.2.1
  have hend : ∀ k, k ≤ (kRow r).length → Q G (if k = (kRow r).length then -1 else nI k) → wX8_columnIn_b30 Q a (nI k) G := by
    intro k hk9 hq
    unfold wX8_columnIn_b30 wX8_columnIn_b43
    refine ⟨hclf ha.1, s_slen ha (br_c (fun e => ?_) (fun e => ?_))⟩
    · rw [if_pos ((nI_eq (by omega) (by omega)).mp e)] at hq
      exact hq
    · rw [if_neg (fun z => e (by rw [z]))] at hq
      exact hq
  have key : ∀ (d k : Nat), k + d = (kRow r).length → Q G (ix (idF c ((kRow r).drop k) k)) → ∃ n, wX8_columnIn_l7 Q n (nI c) (some a) (nI k) G := by
    intro d
    induction d with
    | zero =>
      intro k hk9 hq
      refine ⟨1, ?_⟩
      show wX8_columnIn_b7 Q _ _ _ _ _
      unfold wX8_columnIn_b7
      refine ⟨a, rfl, hclf ha.1, s_slen ha (br_t (nI_le (by omega) (by omega)) (hend k (by omega) ?_))⟩
      rw [List.drop_eq_nil_of_le (by omega)] at hq
      rw [if_pos (by omega)]
      exact hq
    | succ d ih =>
      intro k hk9 hq
      have k1 : k < (kRow r).length := by omega
      have e1 : (kRow r).getD k 0 = (kRow r)[k] := by rw [List.getD_eq_getElem?_getD, List.getElem?_eq_getElem k1]; rfl
      have c128 : (kRow r)[k] < 128 := ha.2.2.2.2.2 _ (List.getElem_mem k1)
      rw [List.drop_eq_getElem_cons k1] at hq
      unfold idF at hq
      by_cases e : (kRow r)[k] = c
      · rw [if_pos e] at hq
        refine ⟨1, ?_⟩
        show wX8_columnIn_b7 Q _ _ _ _ _
        unfold wX8_columnIn_b7
        refine ⟨a, rfl, hclf ha.1, s_slen ha (br_f (nI_ge k1 (by omega)) ⟨hclf ha.1, s_scharAt ha k1 (br_t (by rw [e1, e]) (hend k (by omega) ?_))⟩)⟩
        rw [if_neg (by omega)]
        exact hq
      · rw [if_neg e] at hq
        obtain ⟨n, hn⟩ := ih (k + 1) (by omega) hq
        refine ⟨n + 1, ?_⟩
        show wX8_columnIn_b7 Q (wX8_columnIn_l7 Q n) _ _ _ _
        unfold wX8_columnIn_b7
        refine ⟨a, rfl, hclf ha.1, s_slen ha (br_f (nI_ge k1 (by omega)) ⟨hclf ha.1, s_scharAt ha k1 (br_f (by rw [e1, nI_eq (by omega) (by omega)]; exact e) ?_)⟩)⟩
        rw [show nI k + 1 = nI (k + 1) from nI_1 k]
        exact hn
  exact key (kRow r).length 0 (by omega) hQ
/-- ten times the row and the column of a key -/
def pL (i : Nat) : Nat := [10, 24, 22, 12, 2, 13, 14, 15, 7, 16, 17, 18, 26, 25, 8, 9, 0, 3, 11, 4, 6, 23, 1, 21, 5, 20].getD i 0
theorem pL_ok : ∀ i, i < 26 → pL i < 30 ∧ (pL i / 10 = 0 → idF (97 + i) (kRow 0) 0 = some (pL i % 10)) ∧ (pL i / 10 = 1 → idF (97 + i) (kRow 0) 0 = none ∧ idF (97 + i) (kRow 1) 0 = some (pL i % 10)) ∧ (pL i / 10 = 2 → idF (97 + i) (kRow 0) 0 = none ∧ idF (97 + i) (kRow 1) 0 = none ∧ idF (97 + i) (kRow 2) 0 = some (pL i % 10)) := by decide
theorem ix_nm {k : Nat} (h : k < 2 ^ 31) : ¬ nI k = -1 := fun e => by
  have h1 := congrArg Int32.toInt e
  rw [nI_toInt h] at h1
  have : (-1 : Int32).toInt = -1 := by decide
  omega
section KEYS
variable {o : gO} {G : hG} {i j : Nat}
theorem pL3 (hi : i < 26) : pL i / 10 = 0 ∨ pL i / 10 = 1 ∨ pL i / 10 = 2 := by
  have := (pL_ok i hi).1
  omega
theorem s_rowOf {Q : hG → Int32 → Prop} (hi : i < 26) (hk : kS o G) (hQ : Q G (nI (pL i / 10))) : wX8_rowOf Q (nI (97 + i)) G := by
  obtain ⟨h0, h1, h2, h3⟩ := pL_ok i hi
  unfold wX8_rowOf wX8_rowOf_b27
  rw [show (0 : Int32) = nI 0 from rfl]
  refine s_columnIn (by decide) (by omega) hk ?_
  rcases pL3 hi with z | z | z
  · rw [h1 z]
    refine br_f (ix_nm (by omega)) ?_
    rw [z] at hQ
    exact hQ
  · rw [(h2 z).1]
    refine br_t rfl ?_
    rw [show (1 : Int32) = nI 1 from rfl]
    refine s_columnIn (by decide) (by omega) hk ?_
    rw [(h2 z).2]
    refine br_f (ix_nm (by omega)) ?_
    rw [z] at hQ
    exact hQ
  · rw [(h3 z).1]
    refine br_t rfl ?_
    rw [show (1 : Int32) = nI 1 from rfl]
    refine s_columnIn (by decide) (by omega) hk ?_
    rw [(h3 z).2.1]
    refine br_t rfl ?_
    rw [z] at hQ
    exact hQ
theorem s_columnOf {Q : hG → Int32 → Prop} (hi : i < 26) (hk : kS o G) (hQ : Q G (nI (pL i % 10))) : wX8_columnOf Q (nI (97 + i)) G := by
  obtain ⟨h0, h1, h2, h3⟩ := pL_ok i hi
  unfold wX8_columnOf
  refine s_rowOf hi hk (s_columnIn (by omega) (by omega) hk ?_)
  rcases pL3 hi with z | z | z
  · rw [z, h1 z]
    exact hQ
  · rw [z, (h2 z).2]
    exact hQ
  · rw [z, (h3 z).2.2]
    exact hQ
def hnd (i : Nat) : Nat := if pL i % 10 < 5 then 0 else 1
theorem s_handOf {Q : hG → Int32 → Prop} (hi : i < 26) (hk : kS o G) (hQ : Q G (nI (hnd i))) : wX8_handOf Q (nI (97 + i)) G := by
  unfold wX8_handOf wX8_handOf_b13
  unfold hnd at hQ
  refine s_columnOf hi hk (br_c (fun c => ?_) (fun c => ?_))
  · rw [if_neg (by have := (nI_leI (a := 5) (by decide) (by omega)).mp c; omega)] at hQ
    exact hQ
  · rw [if_pos (by
      apply Nat.not_le.mp
      intro z
      exact c ((nI_leI (a := 5) (by decide) (by omega)).mpr z))] at hQ
    exact hQ
/-- whether two keys are beside each other, the first one's row not lower -/
def besO (p q : Nat) : Bool := if p / 10 = q / 10 then decide (p % 10 = q % 10 + 1 ∨ q % 10 = p % 10 + 1) else decide (q / 10 = p / 10 + 1) && decide (p % 10 = q % 10 ∨ p % 10 = q % 10 + 1)
def bes (i j : Nat) : Bool := if pL i / 10 ≤ pL j / 10 then besO (pL i) (pL j) else besO (pL j) (pL i)
theorem sub_e {a b c : Nat} (ha : a < 2 ^ 29) (hb : b < 2 ^ 29) (hc : c < 2 ^ 29) : nI a - nI b = nI c ↔ a = b + c := by
  have h1 := pk_sub_toInt (a := a) (b := b) (by omega) (by omega)
  constructor
  · intro e
    rw [e, nI_toInt (by omega)] at h1
    omega
  · intro e
    apply Int32.toInt_inj.mp
    rw [h1, nI_toInt (by omega)]
    omega
theorem sub_m {a b : Nat} (ha : a < 2 ^ 29) (hb : b < 2 ^ 29) : nI a - nI b = -1 ↔ b = a + 1 := by
  have h1 := pk_sub_toInt (a := a) (b := b) (by omega) (by omega)
  have h2 : (-1 : Int32).toInt = -1 := by decide
  constructor
  · intro e
    rw [e] at h1
    omega
  · intro e
    apply Int32.toInt_inj.mp
    rw [h1, h2]
    omega
theorem sub_ge {a b : Nat} (ha : a < 2 ^ 29) (hb : b < 2 ^ 29) : 0 ≤ nI a - nI b ↔ b ≤ a := by
  have h1 := pk_sub_toInt (a := a) (b := b) (by omega) (by omega)
  rw [Int32.le_iff_toInt_le, h1, show (0 : Int32).toInt = 0 from rfl]
  omega
theorem s_beO0 {Q : hG → Int32 → Prop} (hi : i < 26) (hj : j < 26) (hk : kS o G) (hle : pL i / 10 ≤ pL j / 10) (hQ : Q G (if besO (pL i) (pL j) then 1 else 0)) : wX8_areBeside_L0 Q (nI (97 + i)) (nI (97 + j)) G := by
  have li := (pL_ok i hi).1
  have lj := (pL_ok j hj).1
  unfold wX8_areBeside_L0
  refine s_rowOf hj hk (s_rowOf hi hk (br_t ((sub_ge (by omega) (by omega)).mpr hle) (s_columnOf hi hk (s_columnOf hj hk ?_))))
  unfold wX8_areBeside_L0_b44 wX8_areBeside_L0_b66 wX8_areBeside_L0_b70 wX8_areBeside_L0_b71
  unfold besO at hQ
  rw [sub_m (a := pL i % 10) (b := pL j % 10) (by omega) (by omega), show (0 : Int32) = nI 0 from rfl, sub_e (c := 0) (by omega) (by omega) (by decide), sub_e (c := 0) (by omega) (by omega) (by decide), show (1 : Int32) = nI 1 from rfl, sub_e (c := 1) (by omega) (by omega) (by decide), sub_e (c := 1) (by omega) (by omega) (by decide)]
  by_cases c1 : pL i / 10 = pL j / 10
  · rw [if_pos c1] at hQ
    refine br_t (by omega) ⟨fun c2 => ⟨hft1, ?_⟩, fun c2 => ⟨fun c3 => ⟨hft1, ?_⟩, fun c3 => ⟨hft0, ?_⟩⟩⟩
    · rw [decide_eq_true (by omega)] at hQ
      exact hQ
    · rw [decide_eq_true (by omega)] at hQ
      exact hQ
    · rw [decide_eq_false (by omega)] at hQ
      exact hQ
  · rw [if_neg c1] at hQ
    refine br_f (by omega) ⟨fun c2 => ⟨fun c3 => ⟨hft1, ?_⟩, fun c3 => ⟨fun c4 => ⟨hft1, ?_⟩, fun c4 => ⟨hft0, ?_⟩⟩⟩, fun c2 => ⟨hft0, ?_⟩⟩
    · rw [decide_eq_true (show pL j / 10 = pL i / 10 + 1 by omega), decide_eq_true (by omega)] at hQ
      exact hQ
    · rw [decide_eq_true (show pL j / 10 = pL i / 10 + 1 by omega), decide_eq_true (by omega)] at hQ
      exact hQ
    · rw [decide_eq_true (show pL j / 10 = pL i / 10 + 1 by omega), decide_eq_false (by omega)] at hQ
      exact hQ
    · rw [decide_eq_false (show ¬ pL j / 10 = pL i / 10 + 1 by omega), Bool.false_and] at hQ
      exact hQ
theorem s_areBeside {Q : hG → Int32 → Prop} (hi : i < 26) (hj : j < 26) (hk : kS o G) (hQ : Q G (if bes i j then 1 else 0)) : wX8_areBeside_L1 Q (nI (97 + i)) (nI (97 + j)) G := by
  have li := (pL_ok i hi).1
  have lj := (pL_ok j hj).1
  unfold bes at hQ
  unfold wX8_areBeside_L1
  refine s_rowOf hj hk (s_rowOf hi hk ?_)
  by_cases hle : pL i / 10 ≤ pL j / 10
  · rw [if_pos hle] at hQ
    refine br_t ((sub_ge (by omega) (by omega)).mpr hle) (s_columnOf hi hk (s_columnOf hj hk ?_))
    unfold wX8_areBeside_L1_b44 wX8_areBeside_L1_b66 wX8_areBeside_L1_b70 wX8_areBeside_L1_b71
    unfold besO at hQ
    rw [sub_m (a := pL i % 10) (b := pL j % 10) (by omega) (by omega), show (0 : Int32) = nI 0 from rfl, sub_e (c := 0) (by omega) (by omega) (by decide), sub_e (c := 0) (by omega) (by omega) (by decide), show (1 : Int32) = nI 1 from rfl, sub_e (c := 1) (by omega) (by omega) (by decide), sub_e (c := 1) (by omega) (by omega) (by decide)]
    by_cases c1 : pL i / 10 = pL j / 10
    · rw [if_pos c1] at hQ
      refine br_t (by omega) ⟨fun c2 => ⟨hft1, ?_⟩, fun c2 => ⟨fun c3 => ⟨hft1, ?_⟩, fun c3 => ⟨hft0, ?_⟩⟩⟩
      · rw [decide_eq_true (by omega)] at hQ
        exact hQ
      · rw [decide_eq_true (by omega)] at hQ
        exact hQ
      · rw [decide_eq_false (by omega)] at hQ
        exact hQ
    · rw [if_neg c1] at hQ
      refine br_f (by omega) ⟨fun c2 => ⟨fun c3 => ⟨hft1, ?_⟩, fun c3 => ⟨fun c4 => ⟨hft1, ?_⟩, fun c4 => ⟨hft0, ?_⟩⟩⟩, fun c2 => ⟨hft0, ?_⟩⟩
      · rw [decide_eq_true (show pL j / 10 = pL i / 10 + 1 by omega), decide_eq_true (by omega)] at hQ
        exact hQ
      · rw [decide_eq_true (show pL j / 10 = pL i / 10 + 1 by omega), decide_eq_true (by omega)] at hQ
        exact hQ
      · rw [decide_eq_true (show pL j / 10 = pL i / 10 + 1 by omega), decide_eq_false (by omega)] at hQ
        exact hQ
      · rw [decide_eq_false (show ¬ pL j / 10 = pL i / 10 + 1 by omega), Bool.false_and] at hQ
        exact hQ
  · rw [if_neg hle] at hQ
    refine br_f (fun z => hle ((sub_ge (by omega) (by omega)).mp z)) (s_beO0 hj hi hk (by omega) ?_)
    refine ⟨?_, hQ⟩
    cases besO (pL j) (pL i)
    · exact hft0
    · exact hft1
end KEYS
