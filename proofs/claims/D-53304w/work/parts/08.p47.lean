/-! ===== plain law 47: the command words; string builders ===== -/
set_option maxRecDepth 100000
def cwd (i : Nat) : List Nat := if i = 0 then [119, 111, 114, 100] else if i = 1 then [115, 116, 105, 99, 107] else if i = 2 then [97, 108, 108, 111, 119] else if i = 3 then [115, 101, 116] else if i = 4 then [100, 114, 111, 112] else if i = 5 then [110, 97, 109, 101] else if i = 6 then [116, 121, 112, 101] else [98, 97, 99, 107]
theorem cwd_k : ∀ i, i < 8 → (100 + i, cwd i) ∈ kTx := by decide
theorem cwd_v : ∀ i, i < 8 → vrb (cwd i) = i := by decide
theorem cwd_h : ∀ i, i < 8 → ∀ j, j < 8 → hsh (cwd i) = hsh (cwd j) → i = j := by decide
theorem vrb_8 {l : List Nat} (h : ∀ i, i < 8 → l ≠ cwd i) : vrb l = 8 := by
  unfold vrb
  rw [if_neg (show ¬ l = [119, 111, 114, 100] from h 0 (by decide)), if_neg (show ¬ l = [115, 116, 105, 99, 107] from h 1 (by decide)), if_neg (show ¬ l = [97, 108, 108, 111, 119] from h 2 (by decide)), if_neg (show ¬ l = [115, 101, 116] from h 3 (by decide)), if_neg (show ¬ l = [100, 114, 111, 112] from h 4 (by decide)), if_neg (show ¬ l = [110, 97, 109, 101] from h 5 (by decide)), if_neg (show ¬ l = [116, 121, 112, 101] from h 6 (by decide)), if_neg (show ¬ l = [98, 97, 99, 107] from h 7 (by decide))]
theorem vrb_at {l : List Nat} {i : Nat} (hi : i < 8) (h : l = cwd i) : vrb l = i := by
  rw [h]
  exact cwd_v i hi
theorem vrb_no {l : List Nat} {i : Nat} (hi : i < 8) (hh : hsh l = hsh (cwd i)) (h : l ≠ cwd i) : vrb l = 8 := vrb_8 fun j hj z => by
  rw [z] at hh
  have := cwd_h j hj i hi hh
  rw [this] at z
  exact h z
section P47
variable {o : gO} {G : hG} {u : Nat × Nat} {a : Nat} {l : List Nat}
theorem s_brn {P : Int32 → hG → Prop} {i : Int32} {k : Nat} {w : List Nat} (pd : pDS o G u a l) (sc : pSC o G k w) (h1 : l = w → P i G) (h0 : l ≠ w → P (-1) G) : hcl G a 21 ∧ (wJ12_equals (fun G10 z11 => (z11 = 0 → P (-1) G10) ∧ (¬ z11 = 0 → P i G10)) a (some k) G) := by
  refine ⟨hclt pd.1, s_deq pd sc ?_⟩
  by_cases e : l = w
  · rw [if_pos e]
    exact br_f (by decide) (h1 e)
  · rw [if_neg e]
    exact br_t rfl (h0 e)
theorem s_args {Q : hG → Option Nat → Prop} (hu : u ≠ (0, 0)) (h : pDS o G u a l) (hk : kS o G) (hQ : ∀ G', pDS o G' u a l → gFr (gOnly u) o G o G' → Q G' (if vrb l < 8 then some (hK G' (agK (vrb l))) else none)) : wX1_argumentsOf Q a G := by
  unfold wX1_argumentsOf
  refine ⟨hclt h.1, s_dhash h fun G' pd f => ?_⟩
  have ks := hk.fr f (fun z => hu z.symm)
  have q := hQ G' pd f
  have fin : ∀ i, i < 8 → vrb l = i → wX1_argumentsOf_b195 Q (nI i) G' := by
    intro i hi e
    rw [e, if_pos hi] at q
    unfold wX1_argumentsOf_b195
    rcases (show i = 0 ∨ i = 1 ∨ i = 2 ∨ i = 3 ∨ i = 4 ∨ i = 5 ∨ i = 6 ∨ i = 7 by omega) with e | e | e | e | e | e | e | e <;> subst e
    all_goals refine ⟨fun z => ?_, fun z => ?_, fun z => ?_, fun z => ?_, fun z => ?_, fun z => ?_, fun z => ?_, fun z => ?_, fun z => ?_⟩
    all_goals first
      | exact q
      | exact absurd z (by decide)
  have bad : vrb l = 8 → wX1_argumentsOf_b195 Q (-1) G' := by
    intro e
    rw [e, if_neg (by decide)] at q
    unfold wX1_argumentsOf_b195
    refine ⟨fun z => absurd z (by decide), fun z => absurd z (by decide), fun z => absurd z (by decide), fun z => absurd z (by decide), fun z => absurd z (by decide), fun z => absurd z (by decide), fun z => absurd z (by decide), fun z => absurd z (by decide), fun _ => q⟩
  refine ⟨fun z => s_brn (P := wX1_argumentsOf_b195 Q) (i := 3) pd (ks _ (cwd_k 3 (by decide))) (fun e => fin 3 (by decide) (vrb_at (by decide) e)) (fun e => bad (vrb_no (i := 3) (by decide) (z.trans (by decide)) e)),
    fun z => s_brn (P := wX1_argumentsOf_b195 Q) (i := 7) pd (ks _ (cwd_k 7 (by decide))) (fun e => fin 7 (by decide) (vrb_at (by decide) e)) (fun e => bad (vrb_no (i := 7) (by decide) (z.trans (by decide)) e)),
    fun z => s_brn (P := wX1_argumentsOf_b195 Q) (i := 4) pd (ks _ (cwd_k 4 (by decide))) (fun e => fin 4 (by decide) (vrb_at (by decide) e)) (fun e => bad (vrb_no (i := 4) (by decide) (z.trans (by decide)) e)),
    fun z => s_brn (P := wX1_argumentsOf_b195 Q) (i := 5) pd (ks _ (cwd_k 5 (by decide))) (fun e => fin 5 (by decide) (vrb_at (by decide) e)) (fun e => bad (vrb_no (i := 5) (by decide) (z.trans (by decide)) e)),
    fun z => s_brn (P := wX1_argumentsOf_b195 Q) (i := 6) pd (ks _ (cwd_k 6 (by decide))) (fun e => fin 6 (by decide) (vrb_at (by decide) e)) (fun e => bad (vrb_no (i := 6) (by decide) (z.trans (by decide)) e)),
    fun z => s_brn (P := wX1_argumentsOf_b195 Q) (i := 0) pd (ks _ (cwd_k 0 (by decide))) (fun e => fin 0 (by decide) (vrb_at (by decide) e)) (fun e => bad (vrb_no (i := 0) (by decide) (z.trans (by decide)) e)),
    fun z => s_brn (P := wX1_argumentsOf_b195 Q) (i := 2) pd (ks _ (cwd_k 2 (by decide))) (fun e => fin 2 (by decide) (vrb_at (by decide) e)) (fun e => bad (vrb_no (i := 2) (by decide) (z.trans (by decide)) e)),
    fun z => s_brn (P := wX1_argumentsOf_b195 Q) (i := 1) pd (ks _ (cwd_k 1 (by decide))) (fun e => fin 1 (by decide) (vrb_at (by decide) e)) (fun e => bad (vrb_no (i := 1) (by decide) (z.trans (by decide)) e)),
    fun z => bad (vrb_8 fun i hi e => ?_)⟩
  rw [e] at z
  rcases (show i = 0 ∨ i = 1 ∨ i = 2 ∨ i = 3 ∨ i = 4 ∨ i = 5 ∨ i = 6 ∨ i = 7 by omega) with y | y | y | y | y | y | y | y <;> subst y <;> revert z <;> decide
/-- a string builder -/
def pSB (o : gO) (G : hG) (u : Nat × Nat) (q : Nat) (l : List Nat) : Prop := hC G q = some (20, true) ∧ o q = u ∧ hI G q 1 = 0 ∧ hI G q 3 = nI l.length ∧ (∃ r, hR G q 0 = some r ∧ hC G r = some (102, true) ∧ o r = u ∧ (hN G r = 16 ∨ hN G r = 34) ∧ l.length ≤ hN G r ∧ ∀ k, k < l.length → hI G r k = nI (l.getD k 0)) ∧ ∀ c, c ∈ l → c < 128
theorem pSB.fr {M : Nat × Nat → Prop} {o' : gO} {G' : hG} {q : Nat} (h : pSB o G u q l) (hf : gFr M o G o' G') (hu : ¬ M u) : pSB o' G' u q l := by
  obtain ⟨h1, h2, h3, h4, ⟨r, h5, h6, h7, h8, h9, h10⟩, h11⟩ := h
  have s := hf.S h1 h2 hu
  have s2 := hf.S h6 h7 hu
  exact ⟨hf.C h1, (hf.O h1).trans h2, s.I h3, s.I h4, ⟨r, s.R h5, hf.C h6, (hf.O h6).trans h7, by rw [s2.1]; exact h8, by rw [s2.1]; exact h9, fun k hk => s2.I (h10 k hk)⟩, h11⟩
theorem s_newSB {Q : hG → Prop} {q : Nat} (hq : hC G q = some (20, true)) (ho : o q = u) (h3 : hI G q 3 = 0) (hQ : ∀ o' G', pSB o' G' u q [] → gFr (gOnly u) o G o' G' → Q G') : wJ39_init Q q G := by
  unfold wJ39_init wJ38_init_c20
  refine br_f (by decide) ⟨by decide, by decide, fun p hp => hlet_i ?_⟩
  rw [show Int32.toNatClampNeg (16 : Int32) = 16 from rfl]
  have pq : q ≠ p := fun z => by
    unfold hfr at hp
    rw [← z, hq] at hp
    cases hp
  have f1 : gFr (gOnly u) o G (gU o p u) (hnw G p 102 16) := gFr.rf.nw u hp
  have f2 := f1.sR (a := q) (k := 0) (x := some p) (Or.inr ho)
  have f3 := f2.sI (a := q) (k := 1) (x := 0) (Or.inr ho)
  refine ⟨f1.C hq, hlet_i ⟨f2.C hq, hlet_i (hQ _ _ ⟨f3.C hq, by rw [gU_n pq]; exact ho, by rw [hI_sI, if_pos ⟨rfl, rfl⟩], ?_, ⟨p, ?_, ?_, gU_s, Or.inl ?_, Nat.zero_le _, fun k hk => absurd hk (Nat.not_lt_zero _)⟩, fun c hc => (nomatch hc)⟩ f3)⟩⟩
  · rw [hI_sI, if_neg (fun z => by cases z.2), hI_sR, hI_nw, if_neg pq]
    exact h3
  · rw [hR_sI, hR_sR, if_pos ⟨rfl, rfl⟩]
  · rw [hC_sI, hC_sR, hC_nw, if_pos rfl]
  · rw [hN_sI, hN_sR, hN_nw, if_pos rfl]
theorem fby : ∀ c, c < 128 → fits .byte (.int (nI c)) = true := by
  intro c hc
  have : nI c = (nI c).toInt8.toInt32 := (i8_id c hc).symm
  rw [this]
  exact pk_fb _
theorem s_sbGrow {Q : hG → Prop} {q : Nat} (h : pSB o G u q l) (hl : l.length < 34) (hQ : ∀ o' G' r, pSB o' G' u q l → hR G' q 0 = some r → l.length < hN G' r → gFr (gOnly u) o G o' G' → Q G') : wJ38_ensureCapacityInternal_c20 Q q (nI (l.length + 1)) G := by
  have hh := h
  obtain ⟨h1, h2, h3, h4, ⟨r, h5, h6, h7, h8, h9, h10⟩, h11⟩ := h
  unfold wJ38_ensureCapacityInternal_c20 wJ38_ensureCapacityInternal_c20_b38
  refine ⟨hclt h1, hlet_i ⟨r, h5, hclt h6, hclt h1, ?_⟩⟩
  rw [h3, sb_shr0]
  refine br_c (fun z => ?_) (fun z => ⟨hclt h1, hlet_i ⟨hclt h1, ?_⟩⟩)
  · refine hQ o G r hh h5 ?_ gFr.rf
    apply Classical.byContradiction
    intro y
    have e : hN G r = l.length := by omega
    rw [e, nI_sub (by omega), show l.length + 1 - l.length = 1 by omega] at z
    exact absurd z (by decide)
  · have e : hN G r = l.length := by
      apply Classical.byContradiction
      intro y
      have hlt : l.length + 1 ≤ hN G r := by omega
      apply z
      rw [Int32.le_iff_toInt_le, Int32.toInt_sub, nI_toInt (by omega), nI_toInt (by omega)]
      show _ ≤ 0
      rw [Int.bmod_eq_of_le (by omega) (by omega)]
      omega
    have e16 : l.length = 16 := by omega
    unfold wJ38_newCapacity_c20
    refine ⟨hclt h1, hlet_i ⟨r, h5, hclt h6, hclt h1, hclt h1, ?_⟩⟩
    rw [h3, sb_shl0, sb_shl0, e, e16]
    rw [show nI (16 + 1) - nI 16 = nI 1 from rfl, show nI 16 + (2 : Int32) = nI 18 from rfl]
    refine s_newLen (by omega) (by omega) (by omega) (by omega) (br_f (by decide) ⟨hclt h1, ⟨hclt h1, r, h5, ?_⟩⟩)
    rw [h3, sb_shl0, sb_shr0, show 16 + max 1 18 = 34 from rfl]
    unfold wJ33_copyOf
    rw [e, e16]
    refine ⟨hclt h6, br_f (by decide) ⟨by decide, by decide, fun p hp => hlet_i ?_⟩⟩
    rw [show Int32.toNatClampNeg (nI 34) = 34 from rfl]
    have qp : q ≠ p := fun z => by
      unfold hfr at hp
      rw [← z, h1] at hp
      cases hp
    have rp : r ≠ p := fun z => by
      unfold hfr at hp
      rw [← z, h6] at hp
      cases hp
    have f1 : gFr (gOnly u) o G (gU o p u) (hnw G p 102 34) := gFr.rf.nw u hp
    have c1 := f1.C h6
    have n1 : hN (hnw G p 102 34) r = 16 := by rw [hN_nw, if_neg rp, e, e16]
    have np : hN (hnw G p 102 34) p = 34 := by rw [hN_nw, if_pos rfl]
    have cp : hC (hnw G p 102 34) p = some (102, true) := by rw [hC_nw, if_pos rfl]
    rw [n1, np, show hMn (nI 16) (nI 34) = nI 16 from rfl, show Int32.toNatClampNeg (nI 16) = 16 from rfl, show Int32.toNatClampNeg (0 : Int32) = 0 from rfl]
    have hr16 : ∀ k, k < 16 → hI (hnw G p 102 34) r k = nI (l.getD k 0) := fun k hk => by
      rw [hI_nw, if_neg rp]
      exact h10 k (by omega)
    refine ⟨hclt c1, c1, cp, by decide, by decide, by decide, by decide, by decide, fun i hi => ?_, ?_⟩
    · rw [Nat.zero_add, hr16 i hi]
      refine fby _ ?_
      rw [List.getD_eq_getElem?_getD, List.getElem?_eq_getElem (by omega)]
      exact h11 _ (List.getElem_mem (by omega))
    · have f2 := (f1.cpI (a := p) (dp := 0) (sp := 0) (n := 16) (f := hI (hnw G p 102 34) r) (Or.inl hp))
      have f3 := f2.sR (a := q) (k := 0) (x := some p) (Or.inr h2)
      refine hlet_i ⟨f2.C h1, hlet_i (hQ _ _ p ⟨f3.C h1, by rw [gU_n qp]; exact h2, ?_, ?_, ⟨p, ?_, ?_, gU_s, Or.inr ?_, ?_, fun k hk => ?_⟩, h11⟩ ?_ ?_ f3)⟩
      · rw [hI_sR, hI_cpI, if_neg qp, hI_nw, if_neg qp]
        exact h3
      · rw [hI_sR, hI_cpI, if_neg qp, hI_nw, if_neg qp]
        exact h4
      · rw [hR_sR, if_pos ⟨rfl, rfl⟩]
      · rw [hC_sR, hC_cpI]
        exact cp
      · rw [hN_sR, hN_cpI]
        exact np
      · rw [hN_sR, hN_cpI, np]
        omega
      · rw [hI_sR, hI_cpI, if_pos rfl, pk_cpy_in (Nat.zero_le _) (by omega), show 0 + (k - 0) = k by omega]
        exact hr16 k (by omega)
      · rw [hR_sR, if_pos ⟨rfl, rfl⟩]
      · rw [hN_sR, hN_cpI, np]
        omega
theorem s_sbApp {Q : hG → Option Nat → Prop} {q c : Nat} (h : pSB o G u q l) (hl : l.length < 34) (hc : c < 128) (hQ : ∀ o' G', pSB o' G' u q (l ++ [c]) → gFr (gOnly u) o G o' G' → Q G' (some q)) : wJ39_append Q q (nI c) G := by
  unfold wJ39_append wJ38_append_c20
  have h4' := h.2.2.2.1
  refine ⟨hclt h.1, hclt h.1, hclt h.1, ?_⟩
  rw [h4', show nI l.length + (1 : Int32) = nI (l.length + 1) from nI_1 _]
  refine s_sbGrow h hl fun o1 G1 r g h5 hn f => ?_
  obtain ⟨h1, h2, h3, h4, ⟨r', h5', h6, h7, h8, h9, h10⟩, h11⟩ := g
  rw [h5] at h5'
  cases h5'
  refine ⟨hclt h1, ?_⟩
  unfold wJ38_isLatin1_c20 wJ38_isLatin1_c20_b18
  refine br_f (by decide) ⟨hclt h1, br_t h3 ⟨hft1, br_f (by decide) ?_⟩⟩
  unfold wJ13_canEncode wJ13_canEncode_b12
  refine br_f (fun z => by have := (nI_ltI (a := 255) (by omega) (by omega)).mp z; omega) ⟨hft1, br_f (by decide) ⟨hclt h1, hlet_i ⟨hclt h1, h1, hlet_i ⟨r, h5, h6, ?_, ?_⟩⟩⟩⟩
  · rw [h4]
    exact vp_in_nI (by rw [hN_sI]; exact hn) (by rw [hN_sI]; omega)
  · rw [h4, nI_clamp (by omega), i8_id c hc, i8_id c hc, show nI l.length + (1 : Int32) = nI (l.length + 1) from nI_1 _]
    have qr : q ≠ r := fun z => by rw [← z, h1] at h6; cases h6
    have f1 : gFr (gOnly u) o G o1 (hsI (hsI G1 q 3 (nI (l.length + 1))) r l.length (nI c)) := (f.tr (gFr.rf (M := gOnly u) |>.sI (a := q) (k := 3) (x := nI (l.length + 1)) (Or.inr h2))).tr (gFr.rf.sI (Or.inr h7))
    refine hlet_i (hQ o1 _ ⟨h1, h2, ?_, ?_, ⟨r, h5, h6, h7, h8, ?_, fun k hk => ?_⟩, fun d hd => ?_⟩ f1)
    · rw [hI_sI, if_neg (fun z => qr z.1), hI_sI, if_neg (fun z => by cases z.2)]
      exact h3
    · rw [hI_sI, if_neg (fun z => qr z.1), hI_sI, if_pos ⟨rfl, rfl⟩, List.length_append]
      rfl
    · rw [List.length_append, List.length_singleton]
      exact hn
    · rw [List.length_append, List.length_singleton] at hk
      rw [hI_sI, List.getD_eq_getElem?_getD]
      by_cases e : k = l.length
      · rw [if_pos ⟨rfl, e⟩, e, List.getElem?_append_right (Nat.le_refl _), Nat.sub_self]
        rfl
      · rw [if_neg (fun z => e z.2), List.getElem?_append_left (by omega), ← List.getD_eq_getElem?_getD, hI_sI, if_neg (fun z => qr z.1.symm)]
        exact h10 k (by omega)
    · rcases List.mem_append.mp hd with hd | hd
      · exact h11 d hd
      · rw [List.mem_singleton.mp hd]
        exact hc
end P47
