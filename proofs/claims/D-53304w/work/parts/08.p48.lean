/-! ===== plain law 48: the builder's string ===== -/
set_option maxRecDepth 100000
section P48
variable {o : gO} {G : hG} {u : Nat × Nat} {a : Nat} {l : List Nat}
theorem s_toString {Q : hG → Option Nat → Prop} {q : Nat} (h : pSB o G u q l) (hl34 : l.length < 34) (hQ : ∀ o' G' p, pDS o' G' u p l → (∀ M, gFr M o G o' G') → Q G' (some p)) : wJ39_toString Q q G := by
  unfold wJ39_toString
  intro p hp
  refine hlet_e fun G2 e2 => ?_
  have f2 : ∀ M, gFr M o G (gU o p u) G2 := fun M => by rw [e2]; exact gFr.rf.nw u hp
  have g := h.fr (f2 gNo) (fun z => z)
  have cp : hC G2 p = some (21, true) := by rw [e2, hC_nw, if_pos rfl]
  have ip : ∀ k, hI G2 p k = 0 := fun k => by rw [e2, hI_nw, if_pos rfl]
  obtain ⟨h1, h2, h3, h4, ⟨r, h5, h6, h7, h8, h9, h10⟩, h11⟩ := g
  unfold wJ12_init wJ12_init_2 wJ38_getValue_c20 wJ39_length wJ38_length_c20 wJ38_isLatin1_c20 wJ38_isLatin1_c20_b18
  refine ⟨hclt h1, hclt h1, hlet_i ⟨hclt h1, hclt h1, hclt h1, hclt h1, br_f (by decide) ⟨hclt h1, br_t h3 ⟨hft1, br_f (by decide) ⟨cp, hlet_e fun G3 e3 => ?_⟩⟩⟩⟩⟩
  have f3 : ∀ M, gFr M o G (gU o p u) G3 := fun M => by rw [e3]; exact (f2 M).sI (Or.inl hp)
  have c3 : hC G3 r = some (102, true) := by rw [e3]; exact h6
  have n3 : hN G3 r = hN G2 r := by rw [e3]; rfl
  have cp3 : hC G3 p = some (21, true) := by rw [e3]; exact cp
  have pr : r ≠ p := fun z => by rw [z, cp] at h6; cases h6
  have ip3 : ∀ k, hI G3 p k = 0 := fun k => by
    rw [e3, hI_sI]
    by_cases e : p = p ∧ k = 1
    · rw [if_pos e]
    · rw [if_neg e]
      exact ip k
  have h10' : ∀ k, k < l.length → hI G3 r k = nI (l.getD k 0) := fun k hk => by
    rw [e3, hI_sI, if_neg (fun z => pr z.1)]
    exact h10 k hk
  have hby : ∀ k, k < l.length → fits .byte (.int (hI G3 r k)) = true := fun k hk => by
    rw [h10' k hk]
    refine fby _ ?_
    rw [List.getD_eq_getElem?_getD, List.getElem?_eq_getElem hk]
    exact h11 _ (List.getElem_mem hk)
  have fin : ∀ (t : Nat) (o4 : gO) (G4 : hG), (∀ M, gFr M (gU o p u) G3 o4 G4) → hC G4 t = some (102, true) → o4 t = u → hN G4 t = l.length → (∀ k, k < l.length → hI G4 t k = nI (l.getD k 0)) → hC G4 p = some (21, true) ∧ hlet (hsR G4 p 0 (some t)) fun G33 => Q G33 (some p) := by
    intro t o4 G4 f4 t1 t2 t3 t4
    have s := (f4 gNo).S cp3 gU_s (fun z => z)
    have fx : ∀ M, gFr M o G o4 (hsR G4 p 0 (some t)) := fun M => ((f3 M).tr (f4 M)).sR (Or.inl hp)
    refine ⟨(f4 gNo).C cp3, hlet_i (hQ o4 _ p ⟨(f4 gNo).C cp3, ((f4 gNo).O cp3).trans gU_s, ?_, ⟨t, by rw [hR_sR, if_pos ⟨rfl, rfl⟩], t1, t2, t3, t4⟩, by omega, h11, Or.inl ?_, Or.inl ?_⟩ fx)⟩
    · rw [hI_sR]
      exact s.I (ip3 1)
    · rw [hI_sR]
      exact s.I (ip3 2)
    · rw [hI_sR]
      exact s.I (ip3 3)
  refine ⟨r, h5, ?_⟩
  rw [h4]
  unfold wJ33_copyOfRange wJ33_copyOfRange_b10
  rw [n3]
  refine br_t rfl ⟨hclt c3, br_c (fun z => ?_) (fun z => ?_)⟩
  · have el : l.length = hN G2 r := (nI_eq (by omega) (by omega)).mp z
    have e16 : hN G2 r = 16 := by omega
    refine ⟨c3, by rw [e16]; decide, fun i hi => hby i (by omega), fun t ht => hlet_i ?_⟩
    have rt : r ≠ t := fun y => by
      unfold hfr at ht
      rw [← y, c3] at ht
      cases ht
    have g1 : ∀ M, gFr M (gU o p u) G3 (gU (gU o p u) t u) (hnw G3 t 102 (hN G2 r)) := fun M => gFr.rf.nw u ht
    have ct : hC (hnw G3 t 102 (hN G2 r)) t = some (102, true) := by rw [hC_nw, if_pos rfl]
    have nt : hN (hnw G3 t 102 (hN G2 r)) t = hN G2 r := by rw [hN_nw, if_pos rfl]
    refine ⟨by rw [hC_cpI]; exact ct, ?_⟩
    refine fin t _ _ (fun M => (g1 M).cpI (Or.inl ht)) ?_ gU_s ?_ fun k hk => ?_
    · rw [hC_cpI]
      exact ct
    · rw [hN_cpI, nt]
      exact el.symm
    · rw [hI_cpI, if_pos rfl, pk_cpy_in (Nat.zero_le _) (by omega), show 0 + (k - 0) = k by omega]
      exact h10' k hk
  · have el : l.length ≠ hN G2 r := fun y => z (by rw [y])
    unfold wJ33_copyOfRangeByte wJ33_checkLength
    rw [show nI l.length - (0 : Int32) = nI l.length from Int32.sub_zero _]
    refine br_t ((nI_leI (a := 0) (by decide) (by omega)).mpr (Nat.zero_le _)) ⟨nI_pos (by omega), by rw [nI_clamp (by omega)]; omega, fun t ht => hlet_i ?_⟩
    rw [nI_clamp (by omega)]
    have rt : r ≠ t := fun y => by
      unfold hfr at ht
      rw [← y, c3] at ht
      cases ht
    have g1 : ∀ M, gFr M (gU o p u) G3 (gU (gU o p u) t u) (hnw G3 t 102 l.length) := fun M => gFr.rf.nw u ht
    have c4 := (g1 gNo).C c3
    have ct : hC (hnw G3 t 102 l.length) t = some (102, true) := by rw [hC_nw, if_pos rfl]
    have nt : hN (hnw G3 t 102 l.length) t = l.length := by rw [hN_nw, if_pos rfl]
    have nr : hN (hnw G3 t 102 l.length) r = hN G2 r := by rw [hN_nw, if_neg rt, n3]
    rw [nr, nt, show nI (hN G2 r) - (0 : Int32) = nI (hN G2 r) from Int32.sub_zero _, hMn_nI (by omega) (by omega), Nat.min_eq_right h9, nI_clamp (by omega), show Int32.toNatClampNeg (0 : Int32) = 0 from rfl]
    refine ⟨hclt c4, c4, ct, by decide, by decide, nI_pos (by omega), by omega, by omega, fun i hi => ?_, hlet_i ?_⟩
    · rw [Nat.zero_add, hI_nw, if_neg rt]
      exact hby i hi
    · refine fin t _ _ (fun M => (g1 M).cpI (Or.inl ht)) ?_ gU_s ?_ fun k hk => ?_
      · rw [hC_cpI]
        exact ct
      · rw [hN_cpI]
        exact nt
      · rw [hI_cpI, if_pos rfl, pk_cpy_in (Nat.zero_le _) (by omega), show 0 + (k - 0) = k by omega, hI_nw, if_neg rt]
        exact h10' k hk
end P48
