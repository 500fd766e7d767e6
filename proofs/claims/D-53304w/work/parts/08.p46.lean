/-! ===== plain law 46: strings ===== -/
set_option maxRecDepth 100000
def hshS (h : Int32) (c : Nat) : Int32 := 31 * h + nI c
def hsh (l : List Nat) : Int32 := l.foldl hshS 0
theorem a255 : ∀ k, k < 128 → nI k &&& 255 = nI k := by decide
/-- a string made at run time -/
def pDS (o : gO) (G : hG) (u : Nat × Nat) (a : Nat) (l : List Nat) : Prop := hC G a = some (21, true) ∧ o a = u ∧ hI G a 1 = 0 ∧ (∃ r, hR G a 0 = some r ∧ hC G r = some (102, true) ∧ o r = u ∧ hN G r = l.length ∧ ∀ k, k < l.length → hI G r k = nI (l.getD k 0)) ∧ l.length ≤ 40 ∧ (∀ c, c ∈ l → c < 128) ∧ (hI G a 2 = 0 ∨ hI G a 2 = hsh l) ∧ (hI G a 3 = 0 ∨ hsh l = 0)
theorem pDS.fr {M : Nat × Nat → Prop} {o o' : gO} {G G' : hG} {u : Nat × Nat} {a : Nat} {l : List Nat} (h : pDS o G u a l) (hf : gFr M o G o' G') (hu : ¬ M u) : pDS o' G' u a l := by
  obtain ⟨h1, h2, h3, ⟨r, h4, h5, h6, h7, h8⟩, h9, h10, h11, h12⟩ := h
  have s := hf.S h1 h2 hu
  have s2 := hf.S h5 h6 hu
  exact ⟨hf.C h1, (hf.O h1).trans h2, s.I h3, ⟨r, s.R h4, hf.C h5, (hf.O h5).trans h6, s2.N h7, fun k hk => s2.I (h8 k hk)⟩, h9, h10, by rw [s.2.1]; exact h11, by rw [s.2.1]; exact h12⟩
section P46
variable {o : gO} {G : hG} {u : Nat × Nat} {a : Nat} {l : List Nat}
theorem s_signed {Q : hG → Int32 → Prop} {r : Nat} (h1 : hC G r = some (102, true)) (h2 : hN G r = l.length) (h3 : ∀ k, k < l.length → hI G r k = nI (l.getD k 0)) (h4 : l.length ≤ 40) (h5 : ∀ c, c ∈ l → c < 128) (hQ : Q G (hsh l)) : wJ25_signedHashCode Q 0 r 0 (nI l.length) G := by
  have lp : ∀ (d k : Nat) (s : Int32), k + d = l.length → Q G ((l.drop k).foldl hshS s) → wJ25_signedHashCode_l8 Q (d + 1) s r (nI l.length) (nI k) G := by
    intro d
    induction d with
    | zero =>
      intro k s hk hq
      show wJ25_signedHashCode_b8 Q _ _ _ _ _ _
      unfold wJ25_signedHashCode_b8
      rw [List.drop_eq_nil_of_le (by omega)] at hq
      exact br_t (nI_le (by omega) (by omega)) hq
    | succ d ih =>
      intro k s hk hq
      show wJ25_signedHashCode_b8 Q (wJ25_signedHashCode_l8 Q (d + 1)) _ _ _ _ _
      unfold wJ25_signedHashCode_b8
      have k1 : k < l.length := by omega
      rw [List.drop_eq_getElem_cons k1, List.foldl_cons] at hq
      refine br_f (nI_ge k1 (by omega)) ⟨hclt h1, vp_in_nI (by omega) (by omega), hlet_i ?_⟩
      have e : l.getD k 0 = l[k] := by rw [List.getD_eq_getElem?_getD, List.getElem?_eq_getElem k1]; rfl
      rw [nI_clamp (by omega), h3 k k1, e, a255 _ (h5 _ (List.getElem_mem k1)), show nI k + (1 : Int32) = nI (k + 1) from nI_1 _]
      exact ih (k + 1) _ (by omega) hq
  unfold wJ25_signedHashCode
  rw [show (0 : Int32) + nI l.length = nI l.length from Int32.zero_add _]
  exact ⟨l.length + 1, lp l.length 0 0 (by omega) hQ⟩
theorem s_dhash {Q : hG → Int32 → Prop} (h : pDS o G u a l) (hQ : ∀ G', pDS o G' u a l → gFr (gOnly u) o G o G' → Q G' (hsh l)) : wJ12_hashCode Q a G := by
  have hh := h
  obtain ⟨h1, h2, h3, ⟨r, h4, h5, h6, h7, h8⟩, h9, h10, h11, h12⟩ := h
  unfold wJ12_hashCode wJ12_hashCode_b58
  refine ⟨hclt h1, br_c (fun z2 => ⟨hclt h1, br_c (fun z3 => ⟨hclt h1, ?_⟩) (fun z3 => ?_)⟩) (fun z2 => ?_)⟩
  · unfold wJ12_isLatin1
    have fin : wJ13_hashCode (fun G16 z17 => (z17 = 0 → (hC G16 a = some (21, true) ∧ hlet (hsI G16 a 3 (1 : Int32)) fun G28 => Q G28 z17)) ∧ (¬ z17 = 0 → (hC G16 a = some (21, true) ∧ hlet (hsI G16 a 2 z17) fun G24 => Q G24 z17))) r G := by
      have key : ((hsh l = 0 → (hC G a = some (21, true) ∧ hlet (hsI G a 3 (1 : Int32)) fun G28 => Q G28 (hsh l))) ∧ (¬ hsh l = 0 → (hC G a = some (21, true) ∧ hlet (hsI G a 2 (hsh l)) fun G24 => Q G24 (hsh l)))) := by
        have hra : r ≠ a := fun z => by rw [z, h1] at h5; cases h5
        refine br_c (fun z => ⟨h1, hlet_i (hQ _ ⟨h1, h2, ?_, ⟨r, h4, h5, h6, h7, fun k hk => ?_⟩, h9, h10, ?_, Or.inr z⟩ (gFr.rf.sI (Or.inr h2)))⟩) (fun z => ⟨h1, hlet_i (hQ _ ⟨h1, h2, ?_, ⟨r, h4, h5, h6, h7, fun k hk => ?_⟩, h9, h10, Or.inr ?_, ?_⟩ (gFr.rf.sI (Or.inr h2)))⟩)
        · rw [hI_sI, if_neg (fun z => by have := z.2; omega)]
          exact h3
        · rw [hI_sI, if_neg (fun z => hra z.1)]
          exact h8 k hk
        · rw [hI_sI, if_neg (fun z => by have := z.2; omega)]
          exact Or.inl z2
        · rw [hI_sI, if_neg (fun z => by have := z.2; omega)]
          exact h3
        · rw [hI_sI, if_neg (fun z => hra z.1)]
          exact h8 k hk
        · rw [hI_sI, if_pos ⟨rfl, rfl⟩]
        · rw [hI_sI, if_neg (fun z => by have := z.2; omega)]
          exact Or.inl z3
      unfold wJ13_hashCode wJ13_hashCode_b51
      rw [h7]
      refine ⟨hclt h5, fun z => ?_, fun z => ⟨hclt h5, ?_, ?_⟩, fun z => ⟨hclt h5, ?_⟩⟩
      · have e0 := (nI_e0 (by omega)).mp z
        rw [List.length_eq_zero_iff.mp e0] at key
        exact key
      · have e1 : l.length = 1 := (nI_eq (b := 1) (by omega) (by decide)).mp z
        exact vp_in_nI (n := 0) (by omega) (by omega)
      · have e1 : l.length = 1 := (nI_eq (b := 1) (by omega) (by decide)).mp z
        obtain ⟨c, hc⟩ := List.length_eq_one_iff.mp e1
        rw [show Int32.toNatClampNeg (0 : Int32) = 0 from rfl, h8 0 (by omega), hc]
        have hc2 := h10 c (by rw [hc]; exact List.mem_singleton.mpr rfl)
        rw [show [c].getD 0 0 = c from rfl, a255 c hc2]
        rw [hc] at key
        have : hsh [c] = nI c := by
          unfold hsh hshS
          show 31 * (0 : Int32) + nI c = nI c
          rw [Int32.mul_zero, Int32.zero_add]
        rw [this] at key
        exact key
      · unfold wJ25_vectorizedHashCode
        refine ⟨fun _ => ⟨r, rfl, h5, s_signed h5 h7 h8 h9 h10 key⟩, fun z => absurd z (by decide), fun z => absurd z (by decide), fun z => absurd z (by decide), fun z => absurd z (by decide), fun z => absurd z (by decide), fun z => absurd z (by decide), fun z => absurd rfl z.1⟩
    unfold wJ12_isLatin1_b18
    exact br_f (by decide) ⟨hclt h1, br_t h3 ⟨hft1, br_f (by decide) ⟨hclt h1, hlet_i ⟨r, h4, fin⟩⟩⟩⟩
  · have e0 : hsh l = 0 := by
      rcases h12 with z | z
      · exact absurd z z3
      · exact z
    rw [z2, ← e0]
    exact hQ G hh gFr.rf
  · have e0 : hI G a 2 = hsh l := by
      rcases h11 with z | z
      · exact absurd z z2
      · exact z
    rw [e0]
    exact hQ G hh gFr.rf
theorem s_deq {Q : hG → Int32 → Prop} {b : Nat} {l' : List Nat} (h : pDS o G u a l) (h' : pSC o G b l') (hQ : Q G (if l = l' then 1 else 0)) : wJ12_equals Q a (some b) G := by
  obtain ⟨h1, h2, h3, ⟨r, h4, h5, h6, h7, h8⟩, h9, h10, h11, h12⟩ := h
  obtain ⟨g1, g2, g3, ⟨r', g4, g5, g6, g7, g8⟩, g9, g10⟩ := h'
  have hab : ¬ some a = some b := fun z => by
    cases z
    rw [h1] at g1
    cases g1
  unfold wJ12_equals
  refine br_f hab ⟨b, rfl, hclf g1, br_f (by decide) ⟨hclf g1, br_f (by decide) ⟨hclt h1, hclf g1, ?_⟩⟩⟩
  rw [h3, g3]
  refine br_t rfl ?_
  unfold wJ12_equals_b36
  refine ⟨hclt h1, hlet_i ⟨hclf g1, hlet_i ⟨r, h4, r', g4, ?_⟩⟩⟩
  obtain ⟨QQ, eQ⟩ : ∃ QQ : hG → Int32 → Prop, QQ = fun G7 z8 => (z8 = 0 → (wJ12_equals_b54 Q G7)) ∧ (¬ z8 = 0 → (wJ12_equals_b55 Q (1 : Int32) G7)) := ⟨_, rfl⟩
  rw [← eQ]
  have fin : ∀ v : Bool, (v = true ↔ l = l') → QQ G (if v then 1 else 0) := by
    intro v hv
    rw [eQ]
    show ((if v then 1 else 0 : Int32) = 0 → (wJ12_equals_b54 Q G)) ∧ (¬ (if v then 1 else 0 : Int32) = 0 → (wJ12_equals_b55 Q (1 : Int32) G))
    unfold wJ12_equals_b54 wJ12_equals_b55
    cases v with
    | true =>
      rw [if_pos (hv.mp rfl)] at hQ
      exact br_f (by decide) ⟨hft1, hQ⟩
    | false =>
      rw [if_neg (fun z => by have := hv.mpr z; cases this)] at hQ
      exact br_t (by decide) ⟨hft0, hQ⟩
  unfold wJ13_equals
  refine ⟨hclt h5, hclf g5, ?_⟩
  rw [h7, g7]
  refine br_c (fun z => ?_) (fun z => ?_)
  · have el : l.length = l'.length := (nI_eq (by omega) (by omega)).mp z
    have gd : ∀ {K : List Nat} {k : Nat} (hk : k < K.length), K.getD k 0 = K[k] := fun hk => by rw [List.getD_eq_getElem?_getD, List.getElem?_eq_getElem hk]; rfl
    have lp : ∀ (d k : Nat), k + d = l.length → (l.drop k = l'.drop k ↔ l = l') → wJ13_equals_l9 QQ (d + 1) r r' (nI k) G := by
      intro d
      induction d with
      | zero =>
        intro k hk he
        show wJ13_equals_b9 QQ _ _ _ _ _
        unfold wJ13_equals_b9
        rw [h7]
        refine ⟨hclt h5, br_t (nI_le (by omega) (by omega)) (fin true ⟨fun _ => he.mp ?_, fun _ => rfl⟩)⟩
        rw [List.drop_eq_nil_of_le (by omega), List.drop_eq_nil_of_le (by omega)]
      | succ d ih =>
        intro k hk he
        show wJ13_equals_b9 QQ (wJ13_equals_l9 QQ (d + 1)) _ _ _ _
        unfold wJ13_equals_b9
        rw [h7, g7]
        have k1 : k < l.length := by omega
        have k2 : k < l'.length := by omega
        rw [List.drop_eq_getElem_cons k1, List.drop_eq_getElem_cons k2] at he
        refine ⟨hclt h5, br_f (nI_ge k1 (by omega)) ⟨hclt h5, vp_in_nI k1 (by omega), hclf g5, vp_in_nI k2 (by omega), ?_⟩⟩
        rw [nI_clamp (by omega), h8 k k1, g8 k k2, gd k1, gd k2]
        have b1 := h10 _ (List.getElem_mem k1)
        have b2 := g10 _ (List.getElem_mem k2)
        refine br_c (fun y => ?_) (fun y => ?_)
        · have ey : l[k] = l'[k] := (nI_eq (by omega) (by omega)).mp y
          rw [show nI k + (1 : Int32) = nI (k + 1) from nI_1 _]
          refine ih (k + 1) (by omega) ⟨fun q => he.mp (by rw [ey, q]), fun q => ?_⟩
          have := he.mpr q
          injection this
        · refine fin false ⟨fun q => (by cases q), fun q => ?_⟩
          have := he.mpr q
          injection this with t1 t2
          exact absurd (by rw [t1]) y
    exact ⟨l.length + 1, lp l.length 0 (by omega) Iff.rfl⟩
  · exact fin false ⟨fun q => (by cases q), fun q => absurd (by rw [q]) z⟩
/-- which word of the commands -/
def vrb (l : List Nat) : Nat := if l = [119, 111, 114, 100] then 0 else if l = [115, 116, 105, 99, 107] then 1 else if l = [97, 108, 108, 111, 119] then 2 else if l = [115, 101, 116] then 3 else if l = [100, 114, 111, 112] then 4 else if l = [110, 97, 109, 101] then 5 else if l = [116, 121, 112, 101] then 6 else if l = [98, 97, 99, 107] then 7 else 8
/-- the arguments -/
def agT (v : Nat) : List Nat := if v = 0 then [119, 110] else if v = 1 then [119, 110] else if v = 2 then [119, 119] else if v = 3 then [110, 110] else if v = 4 then [119] else if v = 5 then [119] else if v = 6 then [119] else []
def agK (v : Nat) : Nat := if v = 0 then 108 else if v = 1 then 108 else if v = 2 then 109 else if v = 3 then 110 else if v = 4 then 111 else if v = 5 then 111 else if v = 6 then 111 else 112
theorem agK_ok : ∀ v, v < 8 → (agK v, agT v) ∈ kTx := by decide
end P46
