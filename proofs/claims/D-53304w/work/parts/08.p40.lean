/-! ===== plain law 40: the numbers stay small ===== -/
set_option maxRecDepth 100000
section P40
variable {B : Bk} {l m : Wd} {c : Nat}
theorem gB.mono {c' : Nat} (h : gB c B) (hc : c ≤ c') : gB c' B := by
  obtain ⟨h1, h2, h3, h4, h5, h6⟩ := h
  exact ⟨h1, h2, h3, h4, fun e he => ⟨(h5 e he).1, Nat.le_trans (h5 e he).2 hc⟩, h6⟩
theorem gB_oP {V : List Mt} (h : gB c B) (hv : ∀ e, e ∈ V → 1 ≤ e.2.2 ∧ e.2.2 ≤ 99) : gB c (oP B V) := by
  obtain ⟨h1, h2, h3, h4, h5, h6⟩ := h
  exact ⟨h1, h2, h3, hv, h5, h6⟩
theorem gB_oB {V : List Mt} (h : gB c B) : gB c (oB B V) := h
theorem gB_oS {V : List Mt} (h : gB c B) (hv : ∀ e, e ∈ V → 1 ≤ e.2.2 ∧ e.2.2 ≤ c) : gB c (oS B V) := by
  obtain ⟨h1, h2, h3, h4, h5, h6⟩ := h
  exact ⟨h1, h2, h3, h4, hv, h6⟩
theorem gB_oL {V : List Mt} (h : gB c B) (hv : ∀ e, e ∈ V → e.2.2 ≤ 1) : gB c (oL B V) := by
  obtain ⟨h1, h2, h3, h4, h5, h6, h7⟩ := h
  exact ⟨h1, h2, h3, h4, h5, hv, h7⟩
theorem kad_mem {most : Nat} {V : List Mt} {e f : Mt} (h : f ∈ kad most V e) : f = e ∨ f ∈ V := by
  unfold kad at h
  rcases List.mem_append.mp h with h | h
  · split at h
    · exact Or.inr (List.mem_of_mem_eraseIdx h)
    · exact Or.inr h
  · exact Or.inl (List.mem_singleton.mp h)
theorem fgt_mem {V : List Mt} {f : Mt} (h : f ∈ fgt V) : f ∈ V := by
  unfold fgt at h
  split at h
  · exact List.mem_of_mem_eraseIdx h
  · exact h
theorem set_mem {V : List Mt} {k : Nat} {e f : Mt} (h : f ∈ V.set k e) : f = e ∨ f ∈ V := by
  rcases List.mem_or_eq_of_mem_set h with h | h
  · exact Or.inr h
  · exact Or.inl h
theorem gB_crd (h : gB c B) : gB c (crd B l m) := by
  have hL : gB c (oL B (kad 20 (bL B) (l, m, 0))) := gB_oL h fun e he => by
    rcases kad_mem he with z | z
    · rw [z]
      exact Nat.zero_le _
    · exact h.2.2.2.2.2.1 e z
  have hp := h.2.2.2.1
  unfold crd
  split
  · refine gB_oP hL fun e he => ?_
    rcases kad_mem he with z | z
    · rw [z]
      exact ⟨Nat.le_refl _, show 1 ≤ 99 by decide⟩
    · exact hp e (fgt_mem z)
  · refine gB_oP hL fun e he => ?_
    rcases set_mem he with z | z
    · rw [z]
      show 1 ≤ min 99 _ ∧ min 99 _ ≤ 99
      omega
    · exact hp e z
theorem gB_esF {S : List Mt} {k t : Nat} (h : gB c B) (hp : (bN B).Pairwise (fun p q => wlt p q = true)) (hv : ∀ e, e ∈ S → 1 ≤ e.2.2 ∧ e.2.2 ≤ c) : gB c (esF B l S k t) := by
  unfold esF
  split
  · rename_i z
    have h1 : gB c (oS B (S.eraseIdx k)) := gB_oS h fun e he => hv e (List.mem_of_mem_eraseIdx he)
    exact gB.addName (B := oS B (S.eraseIdx k)) h1 hp (Or.inr z.2)
  · exact gB_oS h hv
theorem gB_esg (h : gB c B) (hp : (bN B).Pairwise (fun p q => wlt p q = true)) : gB (c + 1) (esg B l) := by
  have h' := h.mono (Nat.le_succ c)
  have hs := h.2.2.2.2.1
  unfold esg
  split
  · refine gB_esF h' hp fun e he => ?_
    rcases kad_mem he with z | z
    · rw [z]
      exact ⟨Nat.le_refl _, Nat.le_add_left _ _⟩
    · have := hs e z
      omega
  · rename_i k e
    obtain ⟨kk, -⟩ := plc_lt e
    refine gB_esF h' hp fun e he => ?_
    rcases set_mem he with z | z
    · rw [z, getD_at kk]
      have := hs _ (List.getElem_mem kk)
      show 1 ≤ (bS B)[k].2.2 + 1 ∧ (bS B)[k].2.2 + 1 ≤ c + 1
      omega
    · have := hs e z
      omega
theorem gB_crt (h : gB c B) (hw : (bW B).Pairwise eLt) (hp : (bN B).Pairwise (fun p q => wlt p q = true)) : gB (c + 1) (crt B l).1 := by
  have h' := h.mono (Nat.le_succ c)
  unfold crt
  by_cases e0 : cse B l = 0
  · rw [if_pos e0]
    have hk : l ∈ keys B := by
      unfold cse at e0
      apply Classical.byContradiction
      intro z
      rw [if_neg z] at e0
      revert e0
      repeat' split
      all_goals decide
    exact h'.addWord hw (by omega) (by omega) (Or.inl hk)
  · rw [if_neg e0]
    by_cases e2 : cse B l = 2
    · rw [if_pos e2]
      split
      · exact h'
      · exact gB_crd h'
    · rw [if_neg e2]
      by_cases e3 : cse B l = 3
      · rw [if_pos e3]
        split
        · exact h'
        · exact gB_crd h'
      · rw [if_neg e3]
        by_cases e4 : cse B l = 4
        · rw [if_pos e4]
          exact gB_esg h hp
        · rw [if_neg e4]
          exact h'
theorem gB_alw (h : gB c B) : gB c (alw B l m).1 := by
  unfold alw
  split
  · exact h
  · exact gB_oB h
theorem gB_tkC (h : gB c B) : gB c (tkC B l m) := by
  unfold tkC
  split
  · exact h
  · exact gB_oP h fun e he => h.2.2.2.1 e (List.mem_of_mem_eraseIdx he)
theorem gB_tkB {r : Bool} (h : gB c B) : gB c (tkB B l m r) := by
  unfold tkB
  split
  · exact h
  · exact gB_oB h
theorem gB_tkb {B' : Bk} {w : Wd} (h : gB c B) (hp : (bN B).Pairwise (fun p q => wlt p q = true)) (e : tkb B = some (B', w)) : gB (c + 1) B' := by
  unfold tkb at e
  split at e
  · cases e
  · split at e
    · cases e
    · cases e
      have h1 : ∀ t v k, gB c (tkA B k t v) := fun t v k => gB_oL h fun e he => by
        rcases set_mem he with z | z
        · rw [z]
          exact Nat.le_refl _
        · exact h.2.2.2.2.2.1 e z
      refine gB_esg (gB_tkC (gB_tkB (h1 _ _ _))) ?_
      rw [bN_tkC, bN_tkB]
      exact hp
end P40
