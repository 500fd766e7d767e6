/-! ===== plain law 57: carryOutOn ===== -/
set_option maxRecDepth 100000
section P57
variable {xa ra wa na b a : Nat} {T : List Nat} {x : Nat → Nat}
theorem prs_e {T : List Nat} {m p : Nat} (h : p + rnM T 32 32 24 p = T.length) : prs T (m + 1) p = .ok [] := if_pos h
theorem prs_n {T : List Nat} {m p : Nat} (h : p + rnM T 32 32 24 p ≠ T.length) : prs T (m + 1) p = match rdC T (p + rnM T 32 32 24 p) with
    | .error e => .error e
    | .ok (v, p', w, n) => match prs T m p' with
      | .error e => .error e
      | .ok L => .ok ((v, w, n) :: L) := if_neg h
theorem qH_t {b : Nat} {v : Nat × Nat} (z : tR v) : qH b v ∨ tR v := Or.inr z
/-- a book and all temporary owners -/
def qR (b : Nat) : Nat × Nat → Prop := fun v => v.1 = b ∨ tR v
theorem qR_0 (h : b ≠ 0) : ¬ qR b (0, 0) := fun z => by
  rcases z with z | z
  · exact h z.symm
  · exact z.2 rfl
theorem s_coOn {Q : hG → Int32 → Prop} (hb : 4 ≤ b) : ∀ (m : Nat) (L : List (Nat × (Nat → Wd) × (Nat → Nat))) (p d c : Nat) (B : Bk) (o : gO) (G : hG), prs T m p = .ok L → T.length < p + 5 * m → d + m < 100 → gB c B → pBr o G b a x B → kC o G → pRd o G xa ra T p (-1) wa na →
    (∀ o' G', pBr o' G' b a x (cOn B L d).1 → gB (c + m) (cOn B L d).1 → gFr (qR b) o G o' G' → Q G' (nI (cOn B L d).2)) → wX11_carryOutOn_l2 Q (m + 3) ra a (nI d) G := by
  intro m
  induction m with
  | zero =>
    intro L p d c B o G _ hl _ _ _ _ h
    have := h.2.2.2.2
    omega
  | succ m ih =>
    intro L p d c B o G hL hl hd hg hB hk h hQ
    show wX11_carryOutOn_b2 Q (wX11_carryOutOn_l2 Q (m + 3)) _ _ _ _
    unfold wX11_carryOutOn_b2 wX11_carryOutOn_b34
    have n0 : ¬ tR (0, 0) := fun z => z.2 rfl
    have nb : ∀ i, ¬ tR (b, i) := fun i z => by have : b = 0 := z.1; omega
    refine ⟨hclt h.2.1.1, s_next h hk.2.2 (fun e G1 r1 f1 => br_t rfl ?_) (fun en _ v p' w n e o1 G1 cs r1 f1 q1 q2 q3 q4 => br_f (by decide) ?_) (fun en _ e he => ?_)⟩
    · have e' : p + rnM T 32 32 24 p = T.length := by
        rcases e with e | e
        · exact e
        · exact absurd rfl e
      rw [prs_e e'] at hL
      cases hL
      exact hQ o G1 (hB.fr f1 nb n0) (hg.mono (Nat.le_add_right _ _)) (f1.mono fun _ z => Or.inr z)
    · have hr1 := r1
      rw [prs_n en, e] at hL
      obtain ⟨hv, hge, hn⟩ := rdC_ge e
      have hB1 := hB.fr f1 nb n0
      have hk1 := hk.fr f1 n0
      have F1 : gFr (qR b) o G o1 G1 := f1.mono fun _ z => Or.inr z
      obtain ⟨-, ⟨a1, a2, a3, a4, a5, a6, a7⟩, ⟨b1, b2, b3⟩, ⟨c1, c2, c3⟩, -⟩ := r1
      have hHR : ∀ u, qH b u → qR b u := fun u z => by
        rcases z with (z | z) | z
        · exact Or.inl z
        · exact Or.inr ⟨z.1, fun y => by have := z.2; omega⟩
        · rw [z]
          exact Or.inr ⟨rfl, by decide⟩
      have nH : ∀ u : Nat × Nat, u.1 ≠ b → (u.1 = 0 → u.2 < 8 ∧ u.2 ≠ 6) → ¬ qH b u := fun u h1 h2 z => by
        rcases z with (z | z) | z
        · exact h1 z
        · have := (h2 z.1).1
          have := z.2
          omega
        · rw [z] at h2
          exact (h2 rfl).2 rfl
      refine ⟨hclt a1, hlet_i ⟨hclt a1, hlet_i ⟨hclt a1, hlet_i ⟨cs, q1, wa, a6, na, a7, ?_⟩⟩⟩⟩
      have hL' : ∃ L', prs T m p' = .ok L' ∧ L = (v, w, n) :: L' := by
        cases e2 : prs T m p' with
        | error e3 =>
          have hL2 : (match prs T m p' with | .error e => (.error e : Except Nat (List (Nat × (Nat → Wd) × (Nat → Nat)))) | .ok L => .ok ((v, w, n) :: L)) = .ok L := hL
          rw [e2] at hL2
          cases hL2
        | ok L' =>
          have hL2 : (match prs T m p' with | .error e => (.error e : Except Nat (List (Nat × (Nat → Wd) × (Nat → Nat)))) | .ok L => .ok ((v, w, n) :: L)) = .ok L := hL
          rw [e2] at hL2
          cases hL2
          exact ⟨L', rfl, rfl⟩
      obtain ⟨L', e2, e3⟩ := hL'
      subst e3
      refine s_carryOut hv (by omega) hg hB1 hk1 q2 ⟨b1, b2, b3⟩ ⟨c1, c2, c3⟩ q4 hn (fun B' e4 g4 o2 G2 t1 t2 => ?_) (fun e4 k o2 G2 t1 t2 => ?_)
      · rw [show nI d + (1 : Int32) = nI (d + 1) from nI_1 _]
        have ec : cOn B ((v, w, n) :: L') d = cOn B' L' (d + 1) := by
          show (match cO B v w n with | none => (B, d) | some B' => cOn B' L' (d + 1)) = _
          rw [e4]
        rw [ec] at hQ
        refine ih L' p' (d + 1) (c + 1) B' o2 G2 e2 (by omega) (by omega) g4 t1 (hk1.fr t2 (nH _ (by show 0 ≠ b; omega) (fun _ => ⟨by decide, by decide⟩))) (hr1.fr t2 (fun i => nH _ (by show 1 ≠ b; omega) (fun y => by cases y)) (nH _ (by show 0 ≠ b; omega) (fun _ => ⟨by decide, by decide⟩)) (nH _ (by show 0 ≠ b; omega) (fun _ => ⟨by decide, by decide⟩))) fun o3 G3 s1 s2 s3 => hQ o3 G3 s1 (by rw [show c + (m + 1) = c + 1 + m by omega]; exact s2) ((F1.tr (t2.mono hHR)).tr s3)
      · have ec : cOn B ((v, w, n) :: L') d = (B, d) := by
          show (match cO B v w n with | none => (B, d) | some B' => cOn B' L' (d + 1)) = _
          rw [e4]
        rw [ec] at hQ
        have q := hQ o2 G2 t1 (hg.mono (Nat.le_add_right _ _)) (F1.tr (t2.mono hHR))
        exact ⟨fun _ _ => q, fun _ _ => q⟩
    · rw [prs_n en, he] at hL
      cases hL
end P57
