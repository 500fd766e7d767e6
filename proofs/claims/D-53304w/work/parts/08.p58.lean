/-! ===== plain law 58: the scan of the command text ===== -/
set_option maxRecDepth 100000
section P58
variable {xa ra wa na : Nat} {T : List Nat}
/-- the scan: its continuation R is what follows with the fault -/
theorem s_scan {Q : hG → Int32 → Prop} {X : Bool → hG → Prop} : ∀ (m p : Nat) (o : gO) (G : hG), T.length < p + 5 * m → kS o G → pRd o G xa ra T p (-1) wa na →
    ((∃ L, prs T m p = .ok L) → ∀ o' G' p', pRd o' G' xa ra T p' (-1) wa na → gFr tR o G o' G' → wX1_runCommands_b11 Q X (fun _ _ _ _ => False) xa ra 0 G') →
    (∀ e, prs T m p = .error e → e ≤ T.length → ∀ o' G' p', pRd o' G' xa ra T p' (nI e) wa na → gFr tR o G o' G' → wX1_runCommands_b11 Q X (fun _ _ _ _ => False) xa ra 0 G') → wX1_runCommands_l11 Q X (m + 3) xa ra 1 G := by
  have ex : ∀ (r r' : Nat → Nat → Int32 → hG → Prop) (G : hG), wX1_runCommands_b11 Q X r xa ra 0 G → wX1_runCommands_b11 Q X r' xa ra 0 G := fun r r' G h => by
    unfold wX1_runCommands_b11 at h ⊢
    exact ⟨fun z => h.1 z, fun z => absurd rfl z⟩
  intro m
  induction m with
  | zero =>
    intro p o G hl _ h
    have := h.2.2.2.2
    omega
  | succ m ih =>
    intro p o G hl hk h hOk hEr
    show wX1_runCommands_b11 Q X (wX1_runCommands_l11 Q X (m + 3)) _ _ _ _
    unfold wX1_runCommands_b11
    have n0 : ¬ tR (0, 0) := fun z => z.2 rfl
    refine br_f (by decide) ⟨hclt h.2.1.1, s_next h hk (fun e G1 r1 f1 => ?_) (fun en _ v p' w n e o1 G1 cs r1 f1 q1 q2 q3 q4 => ?_) (fun en _ e he o1 G1 r1 f1 => ?_)⟩
    · have e' : p + rnM T 32 32 24 p = T.length := by
        rcases e with e | e
        · exact e
        · exact absurd rfl e
      exact ex _ _ _ (hOk ⟨[], prs_e e'⟩ o G1 _ r1 f1)
    · obtain ⟨hv, hge, hn⟩ := rdC_ge e
      rw [prs_n en, e] at hOk hEr
      refine ih p' o1 G1 (by omega) (hk.fr f1 n0) r1 (fun ⟨L, hL⟩ o2 G2 p2 t1 t2 => hOk ⟨(v, w, n) :: L, ?_⟩ o2 G2 p2 t1 (f1.tr t2)) (fun e2 he hle2 o2 G2 p2 t1 t2 => hEr e2 ?_ hle2 o2 G2 p2 t1 (f1.tr t2))
      · show (match prs T m p' with | .error e => (.error e : Except Nat (List (Nat × (Nat → Wd) × (Nat → Nat)))) | .ok L => .ok ((v, w, n) :: L)) = _
        rw [hL]
      · show (match prs T m p' with | .error e => (.error e : Except Nat (List (Nat × (Nat → Wd) × (Nat → Nat)))) | .ok L => .ok ((v, w, n) :: L)) = _
        rw [he]
    · rw [prs_n en, he] at hEr
      have hle := r1.2.2.2.2
      have h23 := r1.1.2.1
      have ne : nI e ≠ -1 := ix_nm (by omega)
      show wX1_runCommands_b11 Q X (wX1_runCommands_l11 Q X (m + 2)) _ _ _ _
      unfold wX1_runCommands_b11
      exact br_f (by decide) ⟨hclt r1.2.1.1, s_next r1 (hk.fr f1 n0) (fun _ G2 t1 t2 => ex _ _ _ (hEr e rfl hle o1 G2 _ t1 (f1.tr t2))) (fun _ z => absurd z ne) (fun _ z => absurd z ne)⟩
end P58
