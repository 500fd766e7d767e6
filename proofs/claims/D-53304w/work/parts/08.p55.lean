/-! ===== plain law 55: carryOut ===== -/
set_option maxRecDepth 100000
section P55
variable {o : gO} {G : hG} {wa na b a c cs : Nat} {x : Nat → Nat} {B : Bk}
theorem co_7 {Q : hG → Prop} {X : Bool → hG → Prop} (h : wX1_carryOut_b186 Q X a wa na (nI 7) G) : wX1_carryOut_b186 Q X a wa na (-1) G := by
  unfold wX1_carryOut_b186 at h ⊢
  exact ⟨fun z => absurd z (by decide), fun z => absurd z (by decide), fun z => absurd z (by decide), fun z => absurd z (by decide), fun z => absurd z (by decide), fun z => absurd z (by decide), fun z => absurd z (by decide), fun _ => h.2.2.2.2.2.2.2 (by decide)⟩
/-- a book's owners, temporary ones, and that of the command's string -/
def qH (b : Nat) : Nat × Nat → Prop := fun v => qM b v ∨ v = (0, 6)
theorem s_carryOut {Q : hG → Prop} {X : Bool → hG → Prop} {v : Nat} {w : Nat → Wd} {n : Nat → Nat} (hv : v < 8) (hb : b ≠ 0) (hg : gB c B) (h : pBr o G b a x B) (hkc : kC o G) (hcs : pDS o G (0, 6) cs (cwd v)) (hwa : hC G wa = some (104, true) ∧ o wa = (0, 5) ∧ hN G wa = 2) (hna : hC G na = some (100, true) ∧ o na = (0, 5) ∧ hN G na = 2) (har : pAr o G wa na (agT v) (agT v).length w n) (hn : ∀ j, n j < 1000)
    (hQ : ∀ B', cO B v w n = some B' → gB (c + 1) B' → ∀ o' G', pBr o' G' b a x B' → gFr (qH b) o G o' G' → Q G') (hX : cO B v w n = none → ∀ k o' G', pBr o' G' b a x B → gFr (qH b) o G o' G' → X k G') : wX1_carryOut Q X a cs wa na G := by
  unfold wX1_carryOut
  refine ⟨hclt hcs.1, s_dhash hcs fun G' pd f => ?_⟩
  have n60 : ¬ gOnly (0, 6) (0, 0) := fun z => by cases z
  have n65 : ¬ gOnly (0, 6) (0, 5) := fun z => by cases z
  have kc := hkc.fr f n60
  have ks := kc.2.2
  have h' := h.fr f (fun i z => hb (congrArg Prod.fst z)) n60
  have sw := f.S hwa.1 hwa.2.1 n65
  have sn := f.S hna.1 hna.2.1 n65
  have F : gFr (qH b) o G o G' := f.mono fun u z => by rw [show u = (0, 6) from z]; exact Or.inr rfl
  have har' : pAr o G' wa na (agT v) (agT v).length w n := fun j hj => by
    obtain ⟨h1, h2⟩ := har j hj
    refine ⟨fun z => ?_, fun z => sn.I (h2 z)⟩
    obtain ⟨y, y1, y2⟩ := h1 z
    exact ⟨y, sw.R y1, y2.fr f n60⟩
  have fin : wX1_carryOut_b186 Q X a wa na (nI v) G' := s_co186 hv hb hg h' kc ⟨f.C hwa.1, sw.N hwa.2.2⟩ ⟨f.C hna.1, sn.N hna.2.2⟩ har' hn (fun B' e g o2 G2 r1 r2 => hQ B' e g o2 G2 r1 (F.tr (r2.mono fun _ z => Or.inl z))) (fun e k => hX e k o G' h' F)
  refine ⟨(fun z => by
    have ev := cwd_h v hv 3 (by decide) (z.trans (by decide))
    subst ev
    exact s_brn (P := wX1_carryOut_b186 Q X a wa na) (i := 3) pd (ks _ (cwd_k 3 (by decide))) (fun _ => fin) (fun e => absurd rfl e)),
    (fun z => by
    have ev := cwd_h v hv 4 (by decide) (z.trans (by decide))
    subst ev
    exact s_brn (P := wX1_carryOut_b186 Q X a wa na) (i := 4) pd (ks _ (cwd_k 4 (by decide))) (fun _ => fin) (fun e => absurd rfl e)),
    (fun z => by
    have ev := cwd_h v hv 5 (by decide) (z.trans (by decide))
    subst ev
    exact s_brn (P := wX1_carryOut_b186 Q X a wa na) (i := 5) pd (ks _ (cwd_k 5 (by decide))) (fun _ => fin) (fun e => absurd rfl e)),
    (fun z => by
    have ev := cwd_h v hv 6 (by decide) (z.trans (by decide))
    subst ev
    exact s_brn (P := wX1_carryOut_b186 Q X a wa na) (i := 6) pd (ks _ (cwd_k 6 (by decide))) (fun _ => fin) (fun e => absurd rfl e)),
    (fun z => by
    have ev := cwd_h v hv 0 (by decide) (z.trans (by decide))
    subst ev
    exact s_brn (P := wX1_carryOut_b186 Q X a wa na) (i := 0) pd (ks _ (cwd_k 0 (by decide))) (fun _ => fin) (fun e => absurd rfl e)),
    (fun z => by
    have ev := cwd_h v hv 2 (by decide) (z.trans (by decide))
    subst ev
    exact s_brn (P := wX1_carryOut_b186 Q X a wa na) (i := 2) pd (ks _ (cwd_k 2 (by decide))) (fun _ => fin) (fun e => absurd rfl e)),
    (fun z => by
    have ev := cwd_h v hv 1 (by decide) (z.trans (by decide))
    subst ev
    exact s_brn (P := wX1_carryOut_b186 Q X a wa na) (i := 1) pd (ks _ (cwd_k 1 (by decide))) (fun _ => fin) (fun e => absurd rfl e)),
    fun z => ?_⟩
  by_cases e : v = 7
  · subst e
    exact co_7 fin
  · exfalso
    rcases (show v = 0 ∨ v = 1 ∨ v = 2 ∨ v = 3 ∨ v = 4 ∨ v = 5 ∨ v = 6 by omega) with y | y | y | y | y | y | y <;> subst y <;> revert z <;> decide
end P55
