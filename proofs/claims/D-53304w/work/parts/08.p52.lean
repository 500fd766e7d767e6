/-! ===== plain law 52: readCommand ===== -/
set_option maxRecDepth 100000
section P52
variable {o : gO} {G : hG} {xa ra p wa na : Nat} {T : List Nat} {f : Int32}
theorem rdC_bad (h : ¬ vrb (ltT T p (rnM T 97 122 24 p)) < 8) : rdC T p = .error p := if_neg h
theorem rdC_ok (h : vrb (ltT T p (rnM T 97 122 24 p)) < 8) : rdC T p = rdE T (vrb (ltT T p (rnM T 97 122 24 p))) (rdA T (agT (vrb (ltT T p (rnM T 97 122 24 p)))) 0 (p + rnM T 97 122 24 p) (fun _ => []) (fun _ => 0)) := if_pos h
/-- field 2 of the reader changes -/
theorem pRd.cmd (h : pRd o G xa ra T p f wa na) (y : Option Nat) : pRd o (hsR G ra 2 y) xa ra T p f wa na ∧ gFr (gOnly (0, 7)) o G o (hsR G ra 2 y) := by
  obtain ⟨h0, ⟨a1, a2, a3, a4, a5, a6, a7⟩, b, c, d⟩ := h
  have fr : gFr (gOnly (0, 7)) o G o (hsR G ra 2 y) := gFr.rf.sR (Or.inr a2)
  exact ⟨⟨h0.fr fr (fun i z => by cases z), ⟨a1, a2, by rw [hR_sR, if_neg (fun z => by cases z.2)]; exact a3, a4, a5, by rw [hR_sR, if_neg (fun z => by have := z.2; omega)]; exact a6, by rw [hR_sR, if_neg (fun z => by have := z.2; omega)]; exact a7⟩, b, c, d⟩, fr⟩
theorem vrb_cwd {l : List Nat} (h : vrb l < 8) : l = cwd (vrb l) := by
  apply Classical.byContradiction
  intro z
  have := vrb_8 (l := l) fun i hi e => by
    have e2 := vrb_at hi e
    rw [← e2] at e
    exact z e
  omega
theorem s_rcTail {Q : hG → Int32 → Prop} {X : Bool → hG → Prop} {q E : Nat} (hE : E = rnM T 97 122 24 p) (hr0 : hR G ra = hR G ra) (h : pRd o G xa ra T (p + E) f wa na) (hk : kS o G) (hsb : pSB o G (0, 6) q (ltT T p E)) (hp : p ≤ T.length)
    (h1 : ∀ v p' w n, rdC T p = .ok (v, p', w, n) → ∀ o' G' cs, pRd o' G' xa ra T p' f wa na → gFr tR o G o' G' → hR G' ra 2 = some cs → pDS o' G' (0, 6) cs (cwd v) → v < 8 → pAr o' G' wa na (agT v) (agT v).length w n → Q G' 1)
    (h0 : ∀ e, rdC T p = .error e → ∀ o' G', pRd o' G' xa ra T e f wa na → gFr tR o G o' G' → Q G' 0) :
    hcl G q 20 ∧ (wJ39_toString (fun G8 z9 => hC G8 ra = some (8, true) ∧ hlet (hsR G8 ra 2 z9) fun G15 => hcl G15 ra 8 ∧ hlet (hR G15 ra 2) fun y19 => ∃ a20, y19 = some a20 ∧ (wX1_argumentsOf (fun G21 z22 => (z22 = none → (hC G21 ra = some (8, true) ∧ hlet (hsI G21 ra 0 (nI p)) fun G30 => Q G30 (0 : Int32))) ∧ (∀ y27, z22 = some y27 → (wX11_readCommand_l85 Q X 3 ra y27 (0 : Int32) G21))) a20 G15)) q G) := by
  have h23 := h.1.2.1
  have hle := h.2.2.2.2
  refine ⟨hclt hsb.1, s_toString hsb (by rw [ltT_len]; omega) fun o1 G1 cs ps f1 => ?_⟩
  have r1 := h.fr (f1 gNo) (fun _ z => z) (fun z => z) (fun z => z)
  have cm := r1.cmd (some cs)
  have n76 : ¬ gOnly (0, 7) (0, 6) := fun z => by cases z
  have n70 : ¬ gOnly (0, 7) (0, 0) := fun z => by cases z
  have n67 : ¬ gOnly (0, 6) (0, 7) := fun z => by cases z
  have n65 : ¬ gOnly (0, 6) (0, 5) := fun z => by cases z
  have n60 : ¬ gOnly (0, 6) (0, 0) := fun z => by cases z
  have ps2 := ps.fr cm.2 n76
  have e2 : hR (hsR G1 ra 2 (some cs)) ra 2 = some cs := by rw [hR_sR, if_pos ⟨rfl, rfl⟩]
  refine ⟨r1.2.1.1, hlet_i ⟨hclt cm.1.2.1.1, hlet_i ⟨cs, e2, ?_⟩⟩⟩
  have k2 := (hk.fr (f1 gNo) (fun z => z)).fr cm.2 n70
  refine s_args (by decide) ps2 k2 fun G3 ps3 f3 => ?_
  have r3 := cm.1.fr f3 (fun i z => by cases z) n67 n65
  have k3 := k2.fr f3 n60
  have F3 : gFr tR o G o1 G3 := ((f1 _).tr (cm.2.t7 (by decide))).tr (f3.t7 (by decide))
  by_cases hv : vrb (ltT T p E) < 8
  · rw [if_pos hv]
    refine cm_some ?_
    have hv' := hv
    rw [hE] at hv'
    have hrc := rdC_ok hv'
    rw [← hE] at hrc
    have e3 : hR G3 ra 2 = some cs := (f3.S cm.1.2.1.1 cm.1.2.1.2.1 n67).R e2
    have ps3' : pDS o1 G3 (0, 6) cs (cwd (vrb (ltT T p E))) := by
      rw [← vrb_cwd hv]
      exact ps3
    refine s_args85 hv (agT (vrb (ltT T p E))) 0 (p + E) (fun _ => []) (fun _ => 0) 3 o1 G3 rfl (Nat.zero_le _) (by have := agT_len _ hv; omega) (k3 _ (agK_ok _ hv)) r3 (fun j hj => absurd hj (Nat.not_lt_zero _)) (fun p' w' n' v' e o4 G4 t1 t2 t3 t4 => ?_) (fun e he o4 G4 t1 t2 => h0 e (by rw [hrc]; exact he) o4 G4 t1 (F3.tr t2.rt))
    have ev : v' = vrb (ltT T p E) := by
      unfold rdE at e
      split at e
      · cases e
      · split at e
        · cases e
          rfl
        · cases e
    subst ev
    exact h1 _ p' w' n' (by rw [hrc]; exact e) o4 G4 cs t1 (F3.tr t2.rt) (by rw [t4]; exact e3) (ps3'.fr t2 (fun z => by rcases z with z | z <;> cases z)) hv t3
  · rw [if_neg hv]
    have hv' := hv
    rw [hE] at hv'
    have mv := r3.mv (p' := p) hp
    exact cm_none ⟨r3.2.1.1, hlet_i (h0 p (rdC_bad hv') o1 _ mv.1 (F3.tr (mv.2.t7 (by decide))))⟩
theorem s_readCommand {Q : hG → Int32 → Prop} {X : Bool → hG → Prop} (h : pRd o G xa ra T p f wa na) (hk : kS o G)
    (h1 : ∀ v p' w n, rdC T p = .ok (v, p', w, n) → ∀ o' G' cs, pRd o' G' xa ra T p' f wa na → gFr tR o G o' G' → hR G' ra 2 = some cs → pDS o' G' (0, 6) cs (cwd v) → v < 8 → pAr o' G' wa na (agT v) (agT v).length w n → Q G' 1)
    (h0 : ∀ e, rdC T p = .error e → ∀ o' G', pRd o' G' xa ra T e f wa na → gFr tR o G o' G' → Q G' 0) : wX11_readCommand Q X ra G := by
  have a1 := h.2.1.1
  have a4 := h.2.1.2.2.2.1
  have h23 := h.1.2.1
  have hp := h.2.2.2.2
  unfold wX11_readCommand
  refine ⟨hclt a1, fun q hq => hlet_e fun G4 e4 => ?_⟩
  have f4 : ∀ M, gFr M o G (gU o q (0, 6)) G4 := fun M => by rw [e4]; exact gFr.rf.nw _ hq
  have c4 : hC G4 q = some (20, true) := by rw [e4, hC_nw, if_pos rfl]
  have i4 : hI G4 q 3 = 0 := by rw [e4, hI_nw, if_pos rfl]
  have n67 : ¬ gOnly (0, 6) (0, 7) := fun z => by cases z
  have n65 : ¬ gOnly (0, 6) (0, 5) := fun z => by cases z
  have n60 : ¬ gOnly (0, 6) (0, 0) := fun z => by cases z
  have n76 : ¬ gOnly (0, 7) (0, 6) := fun z => by cases z
  have n70 : ¬ gOnly (0, 7) (0, 0) := fun z => by cases z
  refine s_newSB (o := gU o q (0, 6)) (u := (0, 6)) c4 gU_s i4 fun o5 G5 g1 g2 => ?_
  have r5 := (h.fr (f4 gNo) (fun _ z => z) (fun z => z) (fun z => z)).fr g2 (fun i z => by cases z) n67 n65
  have k5 := (hk.fr (f4 gNo) (fun z => z)).fr g2 n60
  have F5 : gFr tR o G o5 G5 := (f4 _).tr (g2.t7 (by decide))
  rw [a4]
  obtain ⟨E, hE⟩ : ∃ E, E = rnM T 97 122 24 p := ⟨_, rfl⟩
  have lp : ∀ (m j : Nat) (o1 : gO) (G1 : hG), T.length < p + j + m → pRd o1 G1 xa ra T (p + j) f wa na → kS o1 G1 → pSB o1 G1 (0, 6) q (ltT T p j) → gFr tR o G o1 G1 → j + rnM T 97 122 m (p + j) = E → wX11_readCommand_l13 Q X (m + 2) ra (nI p) q G1 := by
    intro m
    induction m with
    | zero =>
      intro j o1 G1 hj r1
      have := r1.2.2.2.2
      omega
    | succ m ih =>
      intro j o1 G1 hj r1 k1 sb hf ej
      have hr1 := r1
      obtain ⟨⟨⟨x1, x2, x3, ta, x4, x5, x6, x7, x8⟩, x9, x10⟩, ⟨a1', a2', a3', a4', a5', a6', a7'⟩, -, -, d'⟩ := r1
      show wX11_readCommand_b13 Q X (wX11_readCommand_l13 Q X (m + 2)) _ _ _ _
      unfold wX11_readCommand_b13
      unfold rnM at ej
      refine ⟨hclt a1', s_isAt (lo := 97) (hi := 122) (by decide) (by decide) hr1 ?_⟩
      by_cases e : isA T (p + j) 97 122 = true
      · rw [if_pos e] at ej ⊢
        obtain ⟨e1, e2, e3⟩ := isA_iff.mp e
        refine br_f (by decide) ⟨hclt a1', hlet_i ⟨xa, a3', hclt x1, hlet_i ⟨hclt a1', ta, x4, hclt x5, ?_, hclt sb.1, ?_⟩⟩⟩
        · rw [a4', x7]
          exact vp_in_nI (by omega) (by omega)
        · rw [a4', nI_clamp (by omega), x8 (p + j) e1, (sb_byte _ (by omega)).2.1]
          refine s_sbApp sb (by rw [ltT_len]; omega) (by omega) fun o2 G2 g3 g4 => ?_
          have r2 := hr1.fr g4 (fun i z => by cases z) n67 n65
          have mv := r2.mv (p' := p + j + 1) e1
          refine ⟨hclt r2.2.1.1, r2.2.1.1, ?_⟩
          rw [r2.2.1.2.2.2.1, show nI (p + j) + (1 : Int32) = nI (p + j + 1) from nI_1 _]
          refine hlet_i (ih (j + 1) o2 _ (by omega) mv.1 ((k1.fr g4 n60).fr mv.2 n70) ?_ ((hf.tr (g4.t7 (by decide))).tr (mv.2.t7 (by decide))) (by rw [show p + (j + 1) = p + j + 1 by omega]; omega))
          rw [ltT_s]
          exact g3.fr mv.2 n76
      · rw [if_neg e] at ej ⊢
        have ej' : j = E := ej
        subst ej'
        exact br_t rfl (s_rcTail hE rfl hr1 k1 sb hp (fun v p' w n e o' G' cs t1 t2 t3 t4 t5 t6 => h1 v p' w n e o' G' cs t1 (hf.tr t2) t3 t4 t5 t6) (fun e he o' G' t1 t2 => h0 e he o' G' t1 (hf.tr t2)))
  exact lp 24 0 o5 G5 (by omega) r5 k5 g1 F5 (by rw [hE, Nat.zero_add]; rfl)
end P52
